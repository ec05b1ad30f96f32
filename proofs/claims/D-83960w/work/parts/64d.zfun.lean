set_option maxRecDepth 100000
/-! ALL BLOCKS OF THE REFERENCE over whole numbers in one function, each looks at finitely many answers (printed by zgen.py) -/
theorem zd_feed {d : Nat} {x1 : Int} {x2 : Int} {x3 : Int} {x4 : Int} {x5 : Int} {S : ZS} : Yd (fun R => zb_feed R d x1 x2 x3 x4 x5 S) := by
  unfold zb_feed
  exact (Yd_zp fun S1 => (Yd_G (Yd_if (Yd_let fun x6_2 => Yd_rec) Yd_k)))
theorem zd_end {d : Nat} {x1 : Int} {S : ZS} : Yd (fun R => zb_end R d x1 S) := by
  unfold zb_end
  exact (Yd_zp fun S1 => (Yd_if Yd_k (Yd_if (Yd_let fun x2_2 => Yd_rec) Yd_k)))
theorem zd_bindType {d : Nat} {x1 : Int} {x2 : Int} {x3 : Int} {x4 : Int} {S : ZS} : Yd (fun R => zb_bindType R d x1 x2 x3 x4 S) := by
  unfold zb_bindType
  exact (Yd_let fun x5_1 => (Yd_G (Yd_zp fun S2 => (Yd_zs fun S3 => (Yd_zs fun S4 => (Yd_zs fun S5 => (Yd_zs fun S6 => (Yd_zs fun S7 => (Yd_zp fun S8 => Yd_k)))))))))
theorem zd_unit {d : Nat}  {S : ZS} : Yd (fun R => zb_unit R d  S) := by
  unfold zb_unit
  exact (Yd_I Yd_c fun v2 S1 => Yd_k)
theorem zd_type {d : Nat} {x1 : Int} {x2 : Int} {x3 : Int} {x4 : Int} {x5 : Int} {S : ZS} : Yd (fun R => zb_type R d x1 x2 x3 x4 x5 S) := by
  unfold zb_type
  exact (Yd_let fun x6_1 => (Yd_G (Yd_zp fun S2 => (Yd_zs fun S3 => (Yd_if Yd_rec Yd_rec)))))
theorem zd_keep {d : Nat} {x1 : Int} {S : ZS} : Yd (fun R => zb_keep R d x1 S) := by
  unfold zb_keep
  exact (Yd_zp fun S1 => (Yd_I Yd_c fun v3 S2 => Yd_k))
theorem zd_kept0 {d : Nat} {x1 : Int} {S : ZS} : Yd (fun R => zb_kept0 R d x1 S) := by
  unfold zb_kept0
  exact (Yd_let fun x2_1 => (Yd_V Yd_c fun S2 => (Yd_G Yd_k)))
theorem zd_sign0 {d : Nat} {x1 : Int} {S : ZS} : Yd (fun R => zb_sign0 R d x1 S) := by
  unfold zb_sign0
  exact (Yd_I Yd_c fun v2 S1 => (Yd_let fun x2_3 => (Yd_za fun v4 => (Yd_if (Yd_za fun v5 => (Yd_G (Yd_zs fun S6 => (Yd_G (Yd_zp fun S7 => (Yd_za fun v8 => (Yd_let fun x3_9 => Yd_rec))))))) (Yd_za fun v10 => (Yd_if (Yd_let fun x3_11 => (Yd_za fun v12 => (Yd_let fun x4_13 => Yd_rec))) (Yd_let fun x3_14 => Yd_rec)))))))
theorem zd_find {d : Nat} {x1 : Int} {S : ZS} : Yd (fun R => zb_find R d x1 S) := by
  unfold zb_find
  exact (Yd_let fun x2_1 => Yd_rec)
theorem zd_made {d : Nat} {x1 : Int} {S : ZS} : Yd (fun R => zb_made R d x1 S) := by
  unfold zb_made
  exact (Yd_I Yd_c fun v2 S1 => Yd_k)
theorem zd_arrow {d : Nat} {x1 : Int} {x2 : Int} {S : ZS} : Yd (fun R => zb_arrow R d x1 x2 S) := by
  unfold zb_arrow
  exact (Yd_I Yd_c fun v2 S1 => (Yd_I Yd_c fun v4 S3 => (Yd_I Yd_c fun v6 S5 => Yd_k)))
theorem zd_field {d : Nat} {x1 : Int} {x2 : Int} {x3 : Int} {S : ZS} : Yd (fun R => zb_field R d x1 x2 x3 S) := by
  unfold zb_field
  exact (Yd_let fun x4_1 => (Yd_G (Yd_zp fun S2 => (Yd_zs fun S3 => (Yd_zs fun S4 => (Yd_zs fun S5 => Yd_k))))))
theorem zd_bind {d : Nat} {x1 : Int} {x2 : Int} {x3 : Int} {x4 : Int} {x5 : Int} {x6 : Int} {S : ZS} : Yd (fun R => zb_bind R d x1 x2 x3 x4 x5 x6 S) := by
  unfold zb_bind
  exact (Yd_let fun x7_1 => (Yd_G (Yd_zp fun S2 => (Yd_zs fun S3 => (Yd_zs fun S4 => (Yd_zs fun S5 => (Yd_zs fun S6 => (Yd_zs fun S7 => (Yd_zs fun S8 => (Yd_zs fun S9 => (Yd_zp fun S10 => Yd_k)))))))))))
theorem zd_general {d : Nat} {x1 : Int} {S : ZS} : Yd (fun R => zb_general R d x1 S) := by
  unfold zb_general
  exact (Yd_I Yd_c fun v2 S1 => Yd_k)
theorem zd_made_2 {d : Nat} {x1 : Int} {x2 : Int} {S : ZS} : Yd (fun R => zb_made_2 R d x1 x2 S) := by
  unfold zb_made_2
  exact (Yd_I Yd_c fun v2 S1 => (Yd_I Yd_c fun v4 S3 => Yd_k))
theorem zd_pairType {d : Nat} {x1 : Int} {x2 : Int} {S : ZS} : Yd (fun R => zb_pairType R d x1 x2 S) := by
  unfold zb_pairType
  exact (Yd_I Yd_c fun v2 S1 => (Yd_I Yd_c fun v4 S3 => (Yd_I Yd_c fun v6 S5 => (Yd_I Yd_c fun v8 S7 => (Yd_I Yd_c fun v10 S9 => Yd_k)))))
theorem zd_number {d : Nat} {x0 : Int} {S : ZS} : Yd (fun R => zb_number R d x0 S) := by
  unfold zb_number
  exact (Yd_G Yd_k)
theorem zd_variableOf {d : Nat}  {S : ZS} : Yd (fun R => zb_variableOf R d  S) := by
  unfold zb_variableOf
  exact (Yd_let fun x1_1 => (Yd_G (Yd_zp fun S2 => (Yd_if Yd_rec Yd_rec))))
theorem zd_slotOf {d : Nat} {x1 : Int} {S : ZS} : Yd (fun R => zb_slotOf R d x1 S) := by
  unfold zb_slotOf
  exact (Yd_za fun v1 => Yd_k)
theorem zd_exceptionValue {d : Nat} {x1 : Int} {S : ZS} : Yd (fun R => zb_exceptionValue R d x1 S) := by
  unfold zb_exceptionValue
  exact (Yd_G (Yd_zpL fun S1 => Yd_k))
theorem zd_fix {d : Nat} {x1 : Int} {x2 : Int} {x3 : Int} {S : ZS} : Yd (fun R => zb_fix R d x1 x2 x3 S) := by
  unfold zb_fix
  exact (Yd_if Yd_rec Yd_rec)
theorem zd_firstType {d : Nat} {x1 : Int} {S : ZS} : Yd (fun R => zb_firstType R d x1 S) := by
  unfold zb_firstType
  exact (Yd_I Yd_c fun v2 S1 => (Yd_let fun x2_3 => (Yd_if (Yd_I Yd_c fun v5 S4 => (Yd_let fun x3_6 => (Yd_I Yd_c fun v8 S7 => (Yd_I Yd_c fun v10 S9 => (Yd_I Yd_c fun v12 S11 => Yd_k))))) (Yd_if (Yd_I Yd_c fun v15 S14 => (Yd_let fun x3_16 => (Yd_I Yd_c fun v18 S17 => (Yd_I Yd_c fun v20 S19 => (Yd_I Yd_c fun v22 S21 => Yd_k))))) (Yd_if (Yd_I Yd_c fun v25 S24 => (Yd_let fun x4_26 => (Yd_I Yd_c fun v28 S27 => (Yd_I Yd_c fun v30 S29 => (Yd_I Yd_c fun v32 S31 => Yd_k))))) (Yd_if (Yd_I Yd_c fun v35 S34 => (Yd_let fun x4_36 => (Yd_I Yd_c fun v38 S37 => (Yd_I Yd_c fun v40 S39 => (Yd_I Yd_c fun v42 S41 => Yd_k))))) (Yd_if (Yd_I Yd_c fun v45 S44 => (Yd_let fun x4_46 => (Yd_I Yd_c fun v48 S47 => (Yd_I Yd_c fun v50 S49 => (Yd_I Yd_c fun v52 S51 => Yd_k))))) (Yd_if (Yd_I Yd_c fun v55 S54 => (Yd_let fun x4_56 => (Yd_I Yd_c fun v58 S57 => (Yd_I Yd_c fun v60 S59 => (Yd_I Yd_c fun v62 S61 => Yd_k))))) (Yd_if (Yd_I Yd_c fun v65 S64 => (Yd_I Yd_c fun v67 S66 => Yd_k)) (Yd_if (Yd_I Yd_c fun v70 S69 => (Yd_I Yd_c fun v72 S71 => Yd_k)) (Yd_if (Yd_I Yd_c fun v75 S74 => (Yd_I Yd_c fun v77 S76 => Yd_k)) (Yd_if (Yd_I Yd_c fun v80 S79 => (Yd_I Yd_c fun v82 S81 => Yd_k)) (Yd_if (Yd_I Yd_c fun v85 S84 => (Yd_I Yd_c fun v87 S86 => Yd_k)) (Yd_if (Yd_I Yd_c fun v90 S89 => Yd_k) (Yd_if (Yd_I Yd_c fun v93 S92 => Yd_k) (Yd_if (Yd_I Yd_c fun v96 S95 => (Yd_I Yd_c fun v98 S97 => (Yd_I Yd_c fun v100 S99 => Yd_k))) (Yd_if (Yd_I Yd_c fun v103 S102 => (Yd_I Yd_c fun v105 S104 => (Yd_I Yd_c fun v107 S106 => (Yd_I Yd_c fun v109 S108 => (Yd_I Yd_c fun v111 S110 => Yd_k))))) (Yd_if (Yd_I Yd_c fun v114 S113 => (Yd_I Yd_c fun v116 S115 => Yd_k)) (Yd_if (Yd_I Yd_c fun v119 S118 => (Yd_I Yd_c fun v121 S120 => Yd_k)) (Yd_if (Yd_I Yd_c fun v124 S123 => (Yd_I Yd_c fun v126 S125 => Yd_k)) (Yd_if (Yd_I Yd_c fun v129 S128 => (Yd_I Yd_c fun v131 S130 => (Yd_I Yd_c fun v133 S132 => Yd_k))) (Yd_if (Yd_I Yd_c fun v136 S135 => (Yd_I Yd_c fun v138 S137 => (Yd_I Yd_c fun v140 S139 => (Yd_I Yd_c fun v142 S141 => (Yd_I Yd_c fun v144 S143 => (Yd_I Yd_c fun v146 S145 => (Yd_I Yd_c fun v148 S147 => (Yd_I Yd_c fun v150 S149 => (Yd_I Yd_c fun v152 S151 => (Yd_I Yd_c fun v154 S153 => Yd_k)))))))))) (Yd_if (Yd_I Yd_c fun v157 S156 => (Yd_I Yd_c fun v159 S158 => (Yd_I Yd_c fun v161 S160 => (Yd_I Yd_c fun v163 S162 => Yd_k)))) (Yd_if (Yd_I Yd_c fun v166 S165 => (Yd_I Yd_c fun v168 S167 => (Yd_I Yd_c fun v170 S169 => (Yd_I Yd_c fun v172 S171 => Yd_k)))) (Yd_if (Yd_I Yd_c fun v175 S174 => (Yd_I Yd_c fun v177 S176 => Yd_k)) (Yd_if (Yd_I Yd_c fun v180 S179 => (Yd_let fun x5_181 => (Yd_I Yd_c fun v183 S182 => (Yd_I Yd_c fun v185 S184 => Yd_k)))) (Yd_if (Yd_I Yd_c fun v188 S187 => (Yd_let fun x6_189 => (Yd_I Yd_c fun v191 S190 => (Yd_I Yd_c fun v193 S192 => (Yd_I Yd_c fun v195 S194 => (Yd_I Yd_c fun v197 S196 => Yd_k)))))) (Yd_I Yd_c fun v200 S199 => (Yd_I Yd_c fun v202 S201 => (Yd_I Yd_c fun v204 S203 => Yd_k))))))))))))))))))))))))))))))
theorem zd_withField {d : Nat} {x1 : Int} {x2 : Int} {x3 : Int} {S : ZS} : Yd (fun R => zb_withField R d x1 x2 x3 S) := by
  unfold zb_withField
  exact (Yd_if (Yd_I Yd_c fun v2 S1 => Yd_k) (Yd_za fun v3 => (Yd_if (Yd_let fun x4_4 => Yd_rec) (Yd_I Yd_c fun v6 S5 => Yd_k))))
theorem zd_begin {d : Nat}  {S : ZS} : Yd (fun R => zb_begin R d  S) := by
  unfold zb_begin
  exact (Yd_zp fun S1 => (Yd_zs fun S2 => (Yd_zs fun S3 => (Yd_zs fun S4 => (Yd_zs fun S5 => (Yd_zs fun S6 => (Yd_zs fun S7 => (Yd_zs fun S8 => (Yd_zs fun S9 => (Yd_zs fun S10 => (Yd_zs fun S11 => (Yd_zs fun S12 => (Yd_zs fun S13 => (Yd_zs fun S14 => (Yd_zs fun S15 => (Yd_zs fun S16 => (Yd_zp fun S17 => (Yd_zpZ fun S18 => (Yd_zpZ fun S19 => (Yd_zp fun S20 => (Yd_zp fun S21 => (Yd_zp fun S22 => (Yd_zp fun S23 => (Yd_zp fun S24 => (Yd_zp fun S25 => (Yd_zp fun S26 => (Yd_zp fun S27 => Yd_k)))))))))))))))))))))))))))
theorem zd_input {d : Nat}  {S : ZS} : Yd (fun R => zb_input R d  S) := by
  unfold zb_input
  exact (Yd_zp fun S1 => (Yd_zp fun S2 => (Yd_zp fun S3 => (Yd_zp fun S4 => (Yd_zp fun S5 => (Yd_zp fun S6 => (Yd_V Yd_c fun S7 => (Yd_V Yd_c fun S8 => (Yd_I Yd_c fun v10 S9 => (Yd_if (Yd_I Yd_c fun v12 S11 => (Yd_let fun x2_13 => (Yd_za fun v14 => (Yd_za fun v15 => (Yd_I Yd_c fun v17 S16 => (Yd_let fun x3_18 => (Yd_za fun v19 => (Yd_I Yd_c fun v21 S20 => (Yd_let fun x4_22 => (Yd_za fun v23 => (Yd_I Yd_c fun v25 S24 => (Yd_let fun x1_26 => (Yd_I Yd_c fun v28 S27 => (Yd_let fun x5_29 => Yd_rec)))))))))))))) (Yd_I Yd_c fun v31 S30 => (Yd_let fun x1_32 => Yd_rec))))))))))))
theorem zd_read {d : Nat}  {S : ZS} : Yd (fun R => zb_read R d  S) := by
  unfold zb_read
  exact (Yd_V Yd_c fun S1 => (Yd_zp fun S2 => (Yd_zp fun S3 => (Yd_if Yd_k (Yd_G (Yd_zp fun S4 => (Yd_if (Yd_I Yd_c fun v6 S5 => (Yd_let fun x1_7 => (Yd_I Yd_c fun v9 S8 => (Yd_if (Yd_if (Yd_V Yd_c fun S10 => Yd_k) (Yd_I Yd_c fun v12 S11 => (Yd_if (Yd_if (Yd_I Yd_c fun v14 S13 => (Yd_I Yd_c fun v16 S15 => (Yd_if Yd_rec (Yd_V Yd_c fun S17 => Yd_k)))) Yd_rec) (Yd_V Yd_c fun S18 => Yd_k)))) (Yd_V Yd_c fun S19 => Yd_k))))) Yd_k)))))))
theorem zd_gaps {d : Nat}  {S : ZS} : Yd (fun R => zb_gaps R d  S) := by
  unfold zb_gaps
  exact (Yd_I Yd_c fun v2 S1 => (Yd_I Yd_c fun v4 S3 => (Yd_if (Yd_I Yd_c fun v6 S5 => (Yd_if (Yd_I Yd_c fun v8 S7 => (Yd_if (Yd_let fun x1_9 => (Yd_let fun x2_10 => (Yd_G (Yd_zp fun S11 => Yd_rec)))) Yd_k)) Yd_k)) (Yd_G (Yd_zp fun S12 => Yd_rec)))))
theorem zd_here {d : Nat}  {S : ZS} : Yd (fun R => zb_here R d  S) := by
  unfold zb_here
  exact (Yd_if (Yd_za fun v1 => Yd_k) Yd_k)
theorem zd_isBlank {d : Nat} {x0 : Int} {S : ZS} : Yd (fun R => zb_isBlank R d x0 S) := by
  unfold zb_isBlank
  exact (Yd_if Yd_k (Yd_if Yd_k (Yd_if Yd_k (Yd_if Yd_k Yd_k))))
theorem zd_behind {d : Nat} {x1 : Int} {S : ZS} : Yd (fun R => zb_behind R d x1 S) := by
  unfold zb_behind
  exact (Yd_G (Yd_if (Yd_za fun v1 => Yd_k) Yd_k))
theorem zd_isLetter {d : Nat} {x0 : Int} {S : ZS} : Yd (fun R => zb_isLetter R d x0 S) := by
  unfold zb_isLetter
  exact (Yd_if Yd_rec (Yd_if Yd_k Yd_rec))
theorem zd_readName {d : Nat}  {S : ZS} : Yd (fun R => zb_readName R d  S) := by
  unfold zb_readName
  exact (Yd_I Yd_c fun v2 S1 => (Yd_I Yd_c fun v4 S3 => (Yd_if (Yd_V Yd_c fun S5 => Yd_k) (Yd_G (Yd_zp fun S6 => Yd_rec)))))
theorem zd_goesOn {d : Nat} {x0 : Int} {S : ZS} : Yd (fun R => zb_goesOn R d x0 S) := by
  unfold zb_goesOn
  exact (Yd_I Yd_c fun v2 S1 => (Yd_if (Yd_I Yd_c fun v4 S3 => (Yd_if (Yd_if Yd_k (Yd_if Yd_k Yd_k)) Yd_k)) Yd_k))
theorem zd_isDigit {d : Nat} {x0 : Int} {S : ZS} : Yd (fun R => zb_isDigit R d x0 S) := by
  unfold zb_isDigit
  exact (Yd_if Yd_k (Yd_if Yd_k Yd_k))
theorem zd_named {d : Nat}  {S : ZS} : Yd (fun R => zb_named R d  S) := by
  unfold zb_named
  exact (Yd_G (Yd_let fun x1_1 => (Yd_if (Yd_I Yd_c fun v3 S2 => (Yd_zp fun S4 => (Yd_if (Yd_zp fun S5 => Yd_k) (Yd_zp fun S6 => Yd_k)))) Yd_k)))
theorem zd_readVariable {d : Nat}  {S : ZS} : Yd (fun R => zb_readVariable R d  S) := by
  unfold zb_readVariable
  exact (Yd_G (Yd_zp fun S1 => (Yd_I Yd_c fun v3 S2 => (Yd_if (Yd_G (Yd_zp fun S4 => Yd_rec)) Yd_rec))))
theorem zd_readInt {d : Nat}  {S : ZS} : Yd (fun R => zb_readInt R d  S) := by
  unfold zb_readInt
  exact (Yd_I Yd_c fun v2 S1 => (Yd_if Yd_rec Yd_rec))
theorem zd_readString {d : Nat} {x1 : Int} {S : ZS} : Yd (fun R => zb_readString R d x1 S) := by
  unfold zb_readString
  exact (Yd_if Yd_rec Yd_rec)
theorem zd_pushByte {d : Nat} {x1 : Int} {S : ZS} : Yd (fun R => zb_pushByte R d x1 S) := by
  unfold zb_pushByte
  exact (Yd_zs fun S1 => (Yd_G (Yd_zp fun S2 => Yd_k)))
theorem zd_readEscape {d : Nat}  {S : ZS} : Yd (fun R => zb_readEscape R d  S) := by
  unfold zb_readEscape
  exact (Yd_I Yd_c fun v2 S1 => (Yd_let fun x1_3 => (Yd_if Yd_rec (Yd_if Yd_rec (Yd_if Yd_rec (Yd_if Yd_rec (Yd_let fun x2_4 => (Yd_let fun x3_5 => Yd_rec))))))))
theorem zd_isSign {d : Nat} {x0 : Int} {S : ZS} : Yd (fun R => zb_isSign R d x0 S) := by
  unfold zb_isSign
  exact (Yd_if Yd_k (Yd_if Yd_k (Yd_if Yd_k (Yd_if Yd_k (Yd_if Yd_k (Yd_if Yd_k (Yd_if Yd_k (Yd_if Yd_k (Yd_if Yd_k (Yd_if Yd_k (Yd_if Yd_k (Yd_if Yd_k (Yd_if Yd_k (Yd_if Yd_k (Yd_if Yd_k (Yd_if Yd_k (Yd_if Yd_k (Yd_if Yd_k (Yd_if Yd_k (Yd_if Yd_k Yd_k))))))))))))))))))))
theorem zd_readSigns {d : Nat}  {S : ZS} : Yd (fun R => zb_readSigns R d  S) := by
  unfold zb_readSigns
  exact (Yd_I Yd_c fun v2 S1 => (Yd_I Yd_c fun v4 S3 => (Yd_if (Yd_V Yd_c fun S5 => Yd_k) (Yd_if Yd_rec (Yd_I Yd_c fun v7 S6 => (Yd_if (Yd_I Yd_c fun v9 S8 => (Yd_I Yd_c fun v11 S10 => (Yd_if Yd_rec Yd_rec))) Yd_rec))))))
theorem zd_readOther {d : Nat} {x1 : Int} {S : ZS} : Yd (fun R => zb_readOther R d x1 S) := by
  unfold zb_readOther
  exact (Yd_if (Yd_let fun x2_1 => Yd_rec) (Yd_if Yd_rec (Yd_if Yd_rec (Yd_if Yd_rec (Yd_if Yd_rec (Yd_if Yd_rec (Yd_if Yd_rec (Yd_if Yd_rec (Yd_if Yd_rec (Yd_if Yd_rec Yd_k))))))))))
theorem zd_step {d : Nat}  {S : ZS} : Yd (fun R => zb_step R d  S) := by
  unfold zb_step
  exact (Yd_zp fun S1 => (Yd_zp fun S2 => (Yd_zp fun S3 => (Yd_zp fun S4 => (Yd_zp fun S5 => (Yd_if Yd_k (Yd_V Yd_c fun S6 => Yd_k)))))))
theorem zd_beginsDec {d : Nat}  {S : ZS} : Yd (fun R => zb_beginsDec R d  S) := by
  unfold zb_beginsDec
  exact (Yd_I Yd_c fun v2 S1 => (Yd_if (Yd_I Yd_c fun v4 S3 => (Yd_if (Yd_I Yd_c fun v6 S5 => (Yd_if (Yd_I Yd_c fun v8 S7 => (Yd_if (Yd_I Yd_c fun v10 S9 => (Yd_if (Yd_I Yd_c fun v12 S11 => (Yd_if (Yd_I Yd_c fun v14 S13 => (Yd_if (Yd_I Yd_c fun v16 S15 => (Yd_if (Yd_I Yd_c fun v18 S17 => (Yd_if Yd_k Yd_k)) Yd_k)) Yd_k)) Yd_k)) Yd_k)) Yd_k)) Yd_k)) Yd_k)) Yd_k))
theorem zd_is {d : Nat} {x1 : Int} {S : ZS} : Yd (fun R => zb_is R d x1 S) := by
  unfold zb_is
  exact (Yd_if (Yd_if Yd_k Yd_k) Yd_k)
theorem zd_decs {d : Nat} {x1 : Int} {S : ZS} : Yd (fun R => zb_decs R d x1 S) := by
  unfold zb_decs
  exact (Yd_I Yd_c fun v2 S1 => (Yd_let fun x2_3 => (Yd_let fun x3_4 => (Yd_let fun x4_5 => Yd_rec))))
theorem zd_dec {d : Nat}  {S : ZS} : Yd (fun R => zb_dec R d  S) := by
  unfold zb_dec
  exact (Yd_let fun x1_1 => (Yd_let fun x2_2 => (Yd_if (Yd_I Yd_c fun v4 S3 => Yd_k) (Yd_V Yd_c fun S5 => (Yd_if (Yd_I Yd_c fun v7 S6 => (Yd_I Yd_c fun v9 S8 => Yd_k)) (Yd_if (Yd_I Yd_c fun v12 S11 => Yd_k) (Yd_if (Yd_I Yd_c fun v15 S14 => (Yd_I Yd_c fun v17 S16 => Yd_k)) (Yd_if (Yd_I Yd_c fun v20 S19 => (Yd_let fun x4_21 => (Yd_let fun x5_22 => (Yd_I Yd_c fun v24 S23 => (Yd_let fun x6_25 => (Yd_V Yd_c fun S26 => (Yd_I Yd_c fun v28 S27 => (Yd_I Yd_c fun v30 S29 => Yd_k)))))))) (Yd_if (Yd_I Yd_c fun v33 S32 => (Yd_let fun x3_34 => (Yd_if Yd_rec Yd_rec))) (Yd_I Yd_c fun v37 S36 => Yd_k))))))))))
theorem zd_local {d : Nat} {x1 : Int} {S : ZS} : Yd (fun R => zb_local R d x1 S) := by
  unfold zb_local
  exact (Yd_let fun x2_1 => (Yd_V Yd_c fun S2 => (Yd_I Yd_c fun v4 S3 => (Yd_if Yd_rec (Yd_I Yd_c fun v6 S5 => Yd_rec)))))
theorem zd_opens {d : Nat}  {S : ZS} : Yd (fun R => zb_opens R d  S) := by
  unfold zb_opens
  exact (Yd_if Yd_k (Yd_G (Yd_zp fun S1 => (Yd_V Yd_c fun S2 => Yd_k))))
theorem zd_need {d : Nat} {x1 : Int} {S : ZS} : Yd (fun R => zb_need R d x1 S) := by
  unfold zb_need
  exact (Yd_I Yd_c fun v2 S1 => (Yd_if Yd_k (Yd_V Yd_c fun S3 => Yd_k)))
theorem zd_closes {d : Nat} {x1 : Int} {S : ZS} : Yd (fun R => zb_closes R d x1 S) := by
  unfold zb_closes
  exact (Yd_I Yd_c fun v2 S1 => (Yd_if Yd_k (Yd_G (Yd_zp fun S3 => (Yd_V Yd_c fun S4 => Yd_k)))))
theorem zd_node {d : Nat} {x1 : Int} {x2 : Int} {x3 : Int} {x4 : Int} {x5 : Int} {x6 : Int} {S : ZS} : Yd (fun R => zb_node R d x1 x2 x3 x4 x5 x6 S) := by
  unfold zb_node
  exact (Yd_zs fun S1 => (Yd_zs fun S2 => (Yd_zs fun S3 => (Yd_zs fun S4 => (Yd_zs fun S5 => (Yd_zs fun S6 => (Yd_zs fun S7 => (Yd_G (Yd_zp fun S8 => (Yd_G Yd_k))))))))))
theorem zd_has {d : Nat} {x1 : Int} {S : ZS} : Yd (fun R => zb_has R d x1 S) := by
  unfold zb_has
  exact (Yd_I Yd_c fun v2 S1 => (Yd_if Yd_k (Yd_V Yd_c fun S3 => Yd_k)))
theorem zd_binds {d : Nat}  {S : ZS} : Yd (fun R => zb_binds R d  S) := by
  unfold zb_binds
  exact (Yd_let fun x1_1 => (Yd_let fun x2_2 => (Yd_let fun x3_3 => Yd_rec)))
theorem zd_pattern {d : Nat}  {S : ZS} : Yd (fun R => zb_pattern R d  S) := by
  unfold zb_pattern
  exact (Yd_I Yd_c fun v2 S1 => (Yd_let fun x1_3 => (Yd_if Yd_rec Yd_rec)))
theorem zd_infixed {d : Nat} {x1 : Int} {S : ZS} : Yd (fun R => zb_infixed R d x1 S) := by
  unfold zb_infixed
  exact (Yd_let fun x2_1 => (Yd_V Yd_c fun S2 => Yd_rec))
theorem zd_push {d : Nat} {x1 : Int} {S : ZS} : Yd (fun R => zb_push R d x1 S) := by
  unfold zb_push
  exact (Yd_if (Yd_I Yd_c fun v2 S1 => Yd_rec) (Yd_I Yd_c fun v4 S3 => Yd_rec))
theorem zd_appliedPattern {d : Nat}  {S : ZS} : Yd (fun R => zb_appliedPattern R d  S) := by
  unfold zb_appliedPattern
  exact (Yd_I Yd_c fun v2 S1 => (Yd_if (Yd_I Yd_c fun v4 S3 => (Yd_let fun x1_5 => (Yd_zp fun S6 => Yd_k))) (Yd_let fun x1_7 => (Yd_I Yd_c fun v9 S8 => (Yd_if Yd_rec Yd_rec)))))
theorem zd_isOpName {d : Nat}  {S : ZS} : Yd (fun R => zb_isOpName R d  S) := by
  unfold zb_isOpName
  exact (Yd_I Yd_c fun v2 S1 => (Yd_if (Yd_if (Yd_I Yd_c fun v4 S3 => (Yd_if Yd_k Yd_k)) Yd_k) Yd_k))
theorem zd_isInfix {d : Nat} {x1 : Int} {S : ZS} : Yd (fun R => zb_isInfix R d x1 S) := by
  unfold zb_isInfix
  exact (Yd_I Yd_c fun v2 S1 => (Yd_if Yd_k Yd_k))
theorem zd_fixOf {d : Nat} {x1 : Int} {S : ZS} : Yd (fun R => zb_fixOf R d x1 S) := by
  unfold zb_fixOf
  exact (Yd_let fun x2_1 => Yd_rec)
theorem zd_strength {d : Nat} {x1 : Int} {S : ZS} : Yd (fun R => zb_strength R d x1 S) := by
  unfold zb_strength
  exact (Yd_za fun v1 => Yd_k)
theorem zd_atomPattern {d : Nat}  {S : ZS} : Yd (fun R => zb_atomPattern R d  S) := by
  unfold zb_atomPattern
  exact (Yd_let fun x1_1 => (Yd_I Yd_c fun v3 S2 => (Yd_if (Yd_if Yd_rec (Yd_if Yd_rec (Yd_if Yd_rec (Yd_I Yd_c fun v5 S4 => (Yd_if (Yd_I Yd_c fun v7 S6 => (Yd_if (Yd_I Yd_c fun v9 S8 => (Yd_if (Yd_I Yd_c fun v11 S10 => (Yd_if Yd_rec Yd_rec)) (Yd_I Yd_c fun v13 S12 => (Yd_I Yd_c fun v15 S14 => Yd_k)))) (Yd_I Yd_c fun v17 S16 => (Yd_I Yd_c fun v19 S18 => Yd_k)))) (Yd_I Yd_c fun v21 S20 => Yd_k)))))) (Yd_I Yd_c fun v23 S22 => Yd_k))))
theorem zd_constant {d : Nat} {x1 : Int} {S : ZS} : Yd (fun R => zb_constant R d x1 S) := by
  unfold zb_constant
  exact (Yd_if (Yd_I Yd_c fun v2 S1 => (Yd_let fun x2_3 => (Yd_V Yd_c fun S4 => Yd_k))) (Yd_I Yd_c fun v6 S5 => (Yd_let fun x2_7 => (Yd_V Yd_c fun S8 => Yd_k))))
theorem zd_patternRow {d : Nat} {x1 : Int} {S : ZS} : Yd (fun R => zb_patternRow R d x1 S) := by
  unfold zb_patternRow
  exact (Yd_V Yd_c fun S1 => (Yd_let fun x2_2 => (Yd_let fun x3_3 => (Yd_I Yd_c fun v5 S4 => (Yd_if (Yd_let fun x4_6 => (Yd_let fun x5_7 => Yd_rec)) (Yd_let fun x4_8 => (Yd_let fun x5_9 => Yd_rec)))))))
theorem zd_patternField {d : Nat}  {S : ZS} : Yd (fun R => zb_patternField R d  S) := by
  unfold zb_patternField
  exact (Yd_let fun x1_1 => (Yd_if Yd_rec Yd_rec))
theorem zd_label {d : Nat}  {S : ZS} : Yd (fun R => zb_label R d  S) := by
  unfold zb_label
  exact (Yd_I Yd_c fun v2 S1 => (Yd_if Yd_k (Yd_if (Yd_G (Yd_let fun x1_3 => (Yd_V Yd_c fun S4 => Yd_k))) (Yd_let fun x1_5 => (Yd_V Yd_c fun S6 => Yd_k)))))
theorem zd_isLabel {d : Nat}  {S : ZS} : Yd (fun R => zb_isLabel R d  S) := by
  unfold zb_isLabel
  exact (Yd_if Yd_k (Yd_if (Yd_if Yd_k (Yd_if (Yd_if Yd_k Yd_k) Yd_k)) Yd_k))
theorem zd_type_2 {d : Nat}  {S : ZS} : Yd (fun R => zb_type_2 R d  S) := by
  unfold zb_type_2
  exact (Yd_I Yd_c fun v2 S1 => (Yd_let fun x1_3 => (Yd_I Yd_c fun v5 S4 => (Yd_if Yd_k (Yd_V Yd_c fun S6 => (Yd_za fun v7 => (Yd_I Yd_c fun v9 S8 => (Yd_I Yd_c fun v11 S10 => Yd_k))))))))
theorem zd_tupleType {d : Nat}  {S : ZS} : Yd (fun R => zb_tupleType R d  S) := by
  unfold zb_tupleType
  exact (Yd_I Yd_c fun v2 S1 => (Yd_let fun x1_3 => (Yd_if (Yd_if (Yd_za fun v4 => (Yd_I Yd_c fun v6 S5 => (Yd_I Yd_c fun v8 S7 => (Yd_let fun x2_9 => (Yd_let fun x3_10 => (Yd_let fun x4_11 => Yd_rec)))))) Yd_k) Yd_k)))
theorem zd_suffixed {d : Nat}  {S : ZS} : Yd (fun R => zb_suffixed R d  S) := by
  unfold zb_suffixed
  exact (Yd_I Yd_c fun v2 S1 => (Yd_let fun x1_3 => Yd_rec))
theorem zd_atomicType {d : Nat}  {S : ZS} : Yd (fun R => zb_atomicType R d  S) := by
  unfold zb_atomicType
  exact (Yd_let fun x1_1 => (Yd_if (Yd_I Yd_c fun v3 S2 => (Yd_let fun x2_4 => (Yd_V Yd_c fun S5 => Yd_k))) (Yd_if (Yd_if Yd_rec (Yd_I Yd_c fun v7 S6 => (Yd_let fun x2_8 => (Yd_V Yd_c fun S9 => Yd_k)))) Yd_rec)))
theorem zd_typeRow {d : Nat} {x1 : Int} {S : ZS} : Yd (fun R => zb_typeRow R d x1 S) := by
  unfold zb_typeRow
  exact (Yd_V Yd_c fun S1 => (Yd_let fun x2_2 => (Yd_let fun x3_3 => (Yd_I Yd_c fun v5 S4 => (Yd_if (Yd_let fun x4_6 => Yd_rec) Yd_rec)))))
theorem zd_patternHeld {d : Nat} {x1 : Int} {x2 : Int} {S : ZS} : Yd (fun R => zb_patternHeld R d x1 x2 S) := by
  unfold zb_patternHeld
  exact (Yd_V Yd_c fun S1 => (Yd_if Yd_rec Yd_rec))
theorem zd_opName {d : Nat}  {S : ZS} : Yd (fun R => zb_opName R d  S) := by
  unfold zb_opName
  exact (Yd_I Yd_c fun v2 S1 => (Yd_if (Yd_if (Yd_I Yd_c fun v4 S3 => (Yd_if (Yd_I Yd_c fun v6 S5 => Yd_k) Yd_k)) Yd_k) (Yd_I Yd_c fun v8 S7 => Yd_k)))
theorem zd_anyName {d : Nat}  {S : ZS} : Yd (fun R => zb_anyName R d  S) := by
  unfold zb_anyName
  exact (Yd_I Yd_c fun v2 S1 => (Yd_let fun x1_3 => (Yd_if (Yd_let fun x2_4 => (Yd_V Yd_c fun S5 => Yd_k)) (Yd_if Yd_k (Yd_let fun x2_6 => (Yd_V Yd_c fun S7 => Yd_k))))))
theorem zd_plainName {d : Nat}  {S : ZS} : Yd (fun R => zb_plainName R d  S) := by
  unfold zb_plainName
  exact (Yd_if (Yd_let fun x1_1 => (Yd_V Yd_c fun S2 => Yd_k)) Yd_k)
theorem zd_beginsAtomPattern {d : Nat}  {S : ZS} : Yd (fun R => zb_beginsAtomPattern R d  S) := by
  unfold zb_beginsAtomPattern
  exact (Yd_I Yd_c fun v2 S1 => (Yd_if (Yd_if Yd_k (Yd_if Yd_k (Yd_if Yd_k (Yd_I Yd_c fun v4 S3 => (Yd_if (Yd_I Yd_c fun v6 S5 => (Yd_if (Yd_I Yd_c fun v8 S7 => (Yd_if (Yd_I Yd_c fun v10 S9 => (Yd_if Yd_k Yd_k)) Yd_k)) Yd_k)) Yd_k))))) Yd_k))
theorem zd_applications {d : Nat}  {S : ZS} : Yd (fun R => zb_applications R d  S) := by
  unfold zb_applications
  exact (Yd_I Yd_c fun v2 S1 => (Yd_let fun x1_3 => Yd_rec))
theorem zd_atom {d : Nat}  {S : ZS} : Yd (fun R => zb_atom R d  S) := by
  unfold zb_atom
  exact (Yd_let fun x1_1 => (Yd_if Yd_rec (Yd_if Yd_rec (Yd_if Yd_rec (Yd_I Yd_c fun v3 S2 => (Yd_if (Yd_I Yd_c fun v5 S4 => (Yd_if (Yd_I Yd_c fun v7 S6 => (Yd_if (Yd_I Yd_c fun v9 S8 => (Yd_if (Yd_I Yd_c fun v11 S10 => (Yd_if (Yd_I Yd_c fun v13 S12 => (Yd_if Yd_rec Yd_rec)) (Yd_I Yd_c fun v15 S14 => Yd_k))) (Yd_V Yd_c fun S16 => (Yd_I Yd_c fun v18 S17 => (Yd_if (Yd_I Yd_c fun v20 S19 => Yd_rec) Yd_rec))))) (Yd_I Yd_c fun v22 S21 => Yd_k))) (Yd_I Yd_c fun v24 S23 => Yd_k))) (Yd_V Yd_c fun S25 => (Yd_I Yd_c fun v27 S26 => (Yd_I Yd_c fun v29 S28 => Yd_k)))))))))
theorem zd_expressionRow {d : Nat} {x1 : Int} {S : ZS} : Yd (fun R => zb_expressionRow R d x1 S) := by
  unfold zb_expressionRow
  exact (Yd_V Yd_c fun S1 => (Yd_let fun x2_2 => (Yd_let fun x3_3 => (Yd_I Yd_c fun v5 S4 => (Yd_if (Yd_let fun x4_6 => Yd_rec) (Yd_let fun x4_7 => Yd_rec))))))
theorem zd_expression {d : Nat}  {S : ZS} : Yd (fun R => zb_expression R d  S) := by
  unfold zb_expression
  exact (Yd_let fun x1_1 => (Yd_I Yd_c fun v3 S2 => (Yd_if (Yd_I Yd_c fun v5 S4 => (Yd_if (Yd_I Yd_c fun v7 S6 => (Yd_if (Yd_I Yd_c fun v9 S8 => (Yd_if (Yd_I Yd_c fun v11 S10 => (Yd_if (Yd_I Yd_c fun v13 S12 => (Yd_let fun x2_14 => Yd_rec)) (Yd_V Yd_c fun S15 => (Yd_I Yd_c fun v17 S16 => (Yd_let fun x2_18 => (Yd_G (Yd_zp fun S19 => (Yd_I Yd_c fun v21 S20 => Yd_k)))))))) (Yd_V Yd_c fun S22 => (Yd_I Yd_c fun v24 S23 => (Yd_let fun x2_25 => (Yd_V Yd_c fun S26 => (Yd_I Yd_c fun v28 S27 => (Yd_let fun x3_29 => (Yd_G (Yd_zp fun S30 => (Yd_I Yd_c fun v32 S31 => Yd_k))))))))))) (Yd_V Yd_c fun S33 => (Yd_I Yd_c fun v35 S34 => (Yd_let fun x2_36 => (Yd_V Yd_c fun S37 => (Yd_I Yd_c fun v39 S38 => (Yd_let fun x3_40 => (Yd_G (Yd_zp fun S41 => (Yd_I Yd_c fun v43 S42 => Yd_k))))))))))) (Yd_V Yd_c fun S44 => (Yd_I Yd_c fun v46 S45 => (Yd_let fun x2_47 => (Yd_V Yd_c fun S48 => (Yd_I Yd_c fun v50 S49 => (Yd_let fun x3_51 => (Yd_V Yd_c fun S52 => (Yd_I Yd_c fun v54 S53 => (Yd_let fun x4_55 => (Yd_G (Yd_zp fun S56 => (Yd_I Yd_c fun v58 S57 => Yd_k)))))))))))))) (Yd_V Yd_c fun S59 => (Yd_I Yd_c fun v61 S60 => (Yd_let fun x2_62 => (Yd_G (Yd_zp fun S63 => (Yd_I Yd_c fun v65 S64 => Yd_k)))))))))
theorem zd_match {d : Nat}  {S : ZS} : Yd (fun R => zb_match R d  S) := by
  unfold zb_match
  exact (Yd_I Yd_c fun v2 S1 => (Yd_let fun x1_3 => (Yd_let fun x2_4 => Yd_rec)))
theorem zd_rule {d : Nat}  {S : ZS} : Yd (fun R => zb_rule R d  S) := by
  unfold zb_rule
  exact (Yd_I Yd_c fun v2 S1 => (Yd_let fun x1_3 => (Yd_V Yd_c fun S4 => (Yd_I Yd_c fun v6 S5 => (Yd_let fun x2_7 => (Yd_za fun v8 => (Yd_I Yd_c fun v10 S9 => Yd_k)))))))
theorem zd_orelse {d : Nat}  {S : ZS} : Yd (fun R => zb_orelse R d  S) := by
  unfold zb_orelse
  exact (Yd_I Yd_c fun v2 S1 => (Yd_let fun x1_3 => Yd_rec))
theorem zd_andalso {d : Nat}  {S : ZS} : Yd (fun R => zb_andalso R d  S) := by
  unfold zb_andalso
  exact (Yd_I Yd_c fun v2 S1 => (Yd_let fun x1_3 => Yd_rec))
theorem zd_typed {d : Nat}  {S : ZS} : Yd (fun R => zb_typed R d  S) := by
  unfold zb_typed
  exact (Yd_I Yd_c fun v2 S1 => (Yd_let fun x1_3 => Yd_rec))
theorem zd_beginsBig {d : Nat}  {S : ZS} : Yd (fun R => zb_beginsBig R d  S) := by
  unfold zb_beginsBig
  exact (Yd_I Yd_c fun v2 S1 => (Yd_if (Yd_I Yd_c fun v4 S3 => (Yd_if (Yd_I Yd_c fun v6 S5 => (Yd_if (Yd_I Yd_c fun v8 S7 => (Yd_if (Yd_I Yd_c fun v10 S9 => (Yd_if Yd_k Yd_k)) Yd_k)) Yd_k)) Yd_k)) Yd_k))
theorem zd_expressionHeld {d : Nat} {x1 : Int} {S : ZS} : Yd (fun R => zb_expressionHeld R d x1 S) := by
  unfold zb_expressionHeld
  exact (Yd_V Yd_c fun S1 => (Yd_I Yd_c fun v3 S2 => (Yd_if (Yd_I Yd_c fun v5 S4 => (Yd_let fun x2_6 => (Yd_let fun x3_7 => (Yd_I Yd_c fun v9 S8 => (Yd_if (Yd_I Yd_c fun v11 S10 => (Yd_if Yd_rec (Yd_V Yd_c fun S12 => (Yd_I Yd_c fun v14 S13 => (Yd_zs fun S15 => (Yd_I Yd_c fun v17 S16 => (Yd_let fun x3_18 => Yd_rec))))))) (Yd_V Yd_c fun S19 => (Yd_I Yd_c fun v21 S20 => (Yd_zs fun S22 => (Yd_I Yd_c fun v24 S23 => (Yd_let fun x3_25 => Yd_rec)))))))))) (Yd_V Yd_c fun S26 => (Yd_I Yd_c fun v28 S27 => Yd_k)))))
theorem zd_row {d : Nat} {x1 : Int} {S : ZS} : Yd (fun R => zb_row R d x1 S) := by
  unfold zb_row
  exact (Yd_I Yd_c fun v2 S1 => (Yd_let fun x2_3 => (Yd_let fun x3_4 => Yd_rec)))
theorem zd_let {d : Nat} {x1 : Int} {S : ZS} : Yd (fun R => zb_let R d x1 S) := by
  unfold zb_let
  exact (Yd_let fun x2_1 => (Yd_V Yd_c fun S2 => (Yd_I Yd_c fun v4 S3 => (Yd_if Yd_rec (Yd_I Yd_c fun v6 S5 => Yd_rec)))))
theorem zd_beginsAtom {d : Nat}  {S : ZS} : Yd (fun R => zb_beginsAtom R d  S) := by
  unfold zb_beginsAtom
  exact (Yd_if Yd_k (Yd_if Yd_k (Yd_if Yd_k (Yd_if (Yd_I Yd_c fun v2 S1 => (Yd_if Yd_k Yd_k)) (Yd_I Yd_c fun v4 S3 => (Yd_if (Yd_I Yd_c fun v6 S5 => (Yd_if (Yd_I Yd_c fun v8 S7 => (Yd_if (Yd_I Yd_c fun v10 S9 => (Yd_if (Yd_I Yd_c fun v12 S11 => (Yd_if (Yd_I Yd_c fun v14 S13 => (Yd_if Yd_k Yd_k)) Yd_k)) Yd_k)) Yd_k)) Yd_k)) Yd_k))))))
theorem zd_isInfixHere {d : Nat}  {S : ZS} : Yd (fun R => zb_isInfixHere R d  S) := by
  unfold zb_isInfixHere
  exact (Yd_if Yd_rec (Yd_I Yd_c fun v2 S1 => (Yd_if Yd_k Yd_rec)))
theorem zd_isRight {d : Nat} {x1 : Int} {S : ZS} : Yd (fun R => zb_isRight R d x1 S) := by
  unfold zb_isRight
  exact (Yd_za fun v1 => (Yd_if Yd_k Yd_k))
theorem zd_reduce {d : Nat} {x1 : Int} {S : ZS} : Yd (fun R => zb_reduce R d x1 S) := by
  unfold zb_reduce
  exact (Yd_G (Yd_zp fun S1 => (Yd_za fun v2 => (Yd_let fun x2_3 => (Yd_za fun v4 => (Yd_let fun x3_5 => (Yd_G (Yd_zp fun S6 => (Yd_za fun v7 => (Yd_let fun x4_8 => (Yd_za fun v9 => (Yd_let fun x5_10 => (Yd_if (Yd_G Yd_rec) (Yd_G Yd_rec))))))))))))))
theorem zd_functions {d : Nat}  {S : ZS} : Yd (fun R => zb_functions R d  S) := by
  unfold zb_functions
  exact (Yd_let fun x1_1 => (Yd_let fun x2_2 => (Yd_let fun x3_3 => Yd_rec)))
theorem zd_clauses {d : Nat}  {S : ZS} : Yd (fun R => zb_clauses R d  S) := by
  unfold zb_clauses
  exact (Yd_I Yd_c fun v2 S1 => (Yd_let fun x1_3 => (Yd_let fun x2_4 => Yd_rec)))
theorem zd_clause {d : Nat}  {S : ZS} : Yd (fun R => zb_clause R d  S) := by
  unfold zb_clause
  exact (Yd_let fun x1_1 => (Yd_if (Yd_I Yd_c fun v3 S2 => (Yd_if Yd_rec Yd_rec)) Yd_rec))
theorem zd_pair {d : Nat} {x1 : Int} {x2 : Int} {S : ZS} : Yd (fun R => zb_pair R d x1 x2 S) := by
  unfold zb_pair
  exact (Yd_zs fun S1 => (Yd_za fun v2 => (Yd_I Yd_c fun v4 S3 => Yd_k)))
theorem zd_variables {d : Nat}  {S : ZS} : Yd (fun R => zb_variables R d  S) := by
  unfold zb_variables
  exact (Yd_if (Yd_I Yd_c fun v2 S1 => Yd_k) (Yd_I Yd_c fun v4 S3 => (Yd_if Yd_k (Yd_V Yd_c fun S5 => (Yd_if (Yd_I Yd_c fun v7 S6 => (Yd_let fun x1_8 => (Yd_let fun x2_9 => (Yd_let fun x3_10 => Yd_rec)))) Yd_k)))))
theorem zd_variable {d : Nat}  {S : ZS} : Yd (fun R => zb_variable R d  S) := by
  unfold zb_variable
  exact (Yd_I Yd_c fun v2 S1 => (Yd_let fun x1_3 => (Yd_V Yd_c fun S4 => Yd_k)))
theorem zd_datas {d : Nat}  {S : ZS} : Yd (fun R => zb_datas R d  S) := by
  unfold zb_datas
  exact (Yd_let fun x1_1 => (Yd_let fun x2_2 => (Yd_let fun x3_3 => Yd_rec)))
theorem zd_constructors {d : Nat}  {S : ZS} : Yd (fun R => zb_constructors R d  S) := by
  unfold zb_constructors
  exact (Yd_let fun x1_1 => (Yd_let fun x2_2 => (Yd_let fun x3_3 => Yd_rec)))
theorem zd_freeName {d : Nat}  {S : ZS} : Yd (fun R => zb_freeName R d  S) := by
  unfold zb_freeName
  exact (Yd_I Yd_c fun v2 S1 => Yd_k)
theorem zd_exception {d : Nat} {x1 : Int} {S : ZS} : Yd (fun R => zb_exception R d x1 S) := by
  unfold zb_exception
  exact (Yd_I Yd_c fun v2 S1 => (Yd_let fun x2_3 => (Yd_let fun x3_4 => (Yd_if (Yd_I Yd_c fun v6 S5 => Yd_rec) (Yd_I Yd_c fun v8 S7 => Yd_rec)))))
theorem zd_infixes {d : Nat} {x1 : Int} {x2 : Int} {S : ZS} : Yd (fun R => zb_infixes R d x1 x2 S) := by
  unfold zb_infixes
  exact (Yd_if Yd_rec Yd_rec)
theorem zd_valuesAtBegin {d : Nat}  {S : ZS} : Yd (fun R => zb_valuesAtBegin R d  S) := by
  unfold zb_valuesAtBegin
  exact (Yd_zp fun S1 => (Yd_zp fun S2 => (Yd_zp fun S3 => (Yd_zp fun S4 => (Yd_zp fun S5 => (Yd_zp fun S6 => (Yd_zp fun S7 => (Yd_zp fun S8 => (Yd_zp fun S9 => (Yd_zp fun S10 => (Yd_zp fun S11 => (Yd_zp fun S12 => (Yd_zp fun S13 => (Yd_zp fun S14 => (Yd_zp fun S15 => (Yd_zpZ fun S16 => (Yd_zpZ fun S17 => (Yd_zp fun S18 => (Yd_I Yd_c fun v20 S19 => (Yd_zp fun S21 => (Yd_zs fun S22 => (Yd_zp fun S23 => (Yd_zp fun S24 => Yd_k)))))))))))))))))))))))
theorem zd_beginCode {d : Nat} {x1 : Int} {x2 : Int} {S : ZS} : Yd (fun R => zb_beginCode R d x1 x2 S) := by
  unfold zb_beginCode
  exact (Yd_let fun x3_1 => (Yd_G (Yd_zp fun S2 => (Yd_zs fun S3 => (Yd_zs fun S4 => (Yd_zs fun S5 => (Yd_zs fun S6 => (Yd_zs fun S7 => Yd_k))))))))
theorem zd_judgedDec {d : Nat} {x1 : Int} {S : ZS} : Yd (fun R => zb_judgedDec R d x1 S) := by
  unfold zb_judgedDec
  exact (Yd_za fun v1 => (Yd_if (Yd_V Yd_c fun S2 => Yd_k) (Yd_if (Yd_V Yd_c fun S4 => Yd_k) (Yd_if (Yd_V Yd_c fun S6 => Yd_k) (Yd_if (Yd_V Yd_c fun S8 => Yd_k) (Yd_if (Yd_V Yd_c fun S10 => Yd_k) (Yd_if (Yd_V Yd_c fun S12 => Yd_k) (Yd_if (Yd_V Yd_c fun S14 => Yd_k) (Yd_if (Yd_V Yd_c fun S16 => Yd_k) Yd_k)))))))))
theorem zd_judgedVal {d : Nat} {x1 : Int} {S : ZS} : Yd (fun R => zb_judgedVal R d x1 S) := by
  unfold zb_judgedVal
  exact (Yd_I Yd_c fun v2 S1 => (Yd_let fun x2_3 => (Yd_let fun x3_4 => (Yd_zp fun S5 => (Yd_let fun x4_6 => (Yd_let fun x5_7 => (Yd_zp fun S8 => (Yd_za fun v9 => (Yd_let fun x6_10 => Yd_rec)))))))))
theorem zd_enterVariables {d : Nat} {x1 : Int} {S : ZS} : Yd (fun R => zb_enterVariables R d x1 S) := by
  unfold zb_enterVariables
  exact (Yd_let fun x2_1 => (Yd_zp fun S2 => (Yd_za fun v3 => (Yd_V Yd_c fun S4 => (Yd_let fun x3_5 => Yd_rec)))))
theorem zd_lookAll {d : Nat} {x1 : Int} {x2 : Int} {S : ZS} : Yd (fun R => zb_lookAll R d x1 x2 S) := by
  unfold zb_lookAll
  exact (Yd_let fun x3_1 => Yd_rec)
theorem zd_look {d : Nat} {x1 : Int} {x2 : Int} {S : ZS} : Yd (fun R => zb_look R d x1 x2 S) := by
  unfold zb_look
  exact (Yd_let fun x3_1 => Yd_rec)
theorem zd_found {d : Nat} {x1 : Int} {x2 : Int} {S : ZS} : Yd (fun R => zb_found R d x1 x2 S) := by
  unfold zb_found
  exact (Yd_let fun x3_1 => Yd_rec)
theorem zd_judgedPattern {d : Nat} {x1 : Int} {S : ZS} : Yd (fun R => zb_judgedPattern R d x1 S) := by
  unfold zb_judgedPattern
  exact (Yd_za fun v1 => (Yd_if (Yd_I Yd_c fun v3 S2 => Yd_k) (Yd_if (Yd_I Yd_c fun v6 S5 => Yd_k) (Yd_if (Yd_I Yd_c fun v9 S8 => Yd_k) (Yd_if (Yd_I Yd_c fun v12 S11 => Yd_k) (Yd_if (Yd_I Yd_c fun v15 S14 => Yd_k) (Yd_if (Yd_I Yd_c fun v18 S17 => Yd_k) (Yd_if (Yd_I Yd_c fun v21 S20 => Yd_k) (Yd_if (Yd_I Yd_c fun v24 S23 => Yd_k) (Yd_if (Yd_za fun v26 => (Yd_I Yd_c fun v28 S27 => (Yd_let fun x2_29 => (Yd_za fun v30 => (Yd_I Yd_c fun v32 S31 => (Yd_let fun x3_33 => (Yd_za fun v34 => (Yd_za fun v35 => (Yd_V Yd_c fun S36 => Yd_k))))))))) (Yd_if (Yd_I Yd_c fun v39 S38 => Yd_k) (Yd_if (Yd_I Yd_c fun v42 S41 => Yd_k) (Yd_if (Yd_I Yd_c fun v45 S44 => Yd_k) (Yd_I Yd_c fun v48 S47 => Yd_k))))))))))))))
theorem zd_unknown {d : Nat}  {S : ZS} : Yd (fun R => zb_unknown R d  S) := by
  unfold zb_unknown
  exact (Yd_I Yd_c fun v2 S1 => Yd_k)
theorem zd_patternName {d : Nat} {x1 : Int} {S : ZS} : Yd (fun R => zb_patternName R d x1 S) := by
  unfold zb_patternName
  exact (Yd_za fun v1 => (Yd_let fun x2_2 => (Yd_I Yd_c fun v4 S3 => (Yd_let fun x3_5 => (Yd_if Yd_rec (Yd_za fun v6 => (Yd_if Yd_rec (Yd_za fun v7 => (Yd_if Yd_rec Yd_rec)))))))))
theorem zd_valueOf {d : Nat} {x1 : Int} {S : ZS} : Yd (fun R => zb_valueOf R d x1 S) := by
  unfold zb_valueOf
  exact (Yd_let fun x2_1 => Yd_rec)
theorem zd_hasArgument {d : Nat} {x1 : Int} {S : ZS} : Yd (fun R => zb_hasArgument R d x1 S) := by
  unfold zb_hasArgument
  exact (Yd_za fun v1 => (Yd_if (Yd_za fun v2 => (Yd_za fun v3 => Yd_rec)) (Yd_za fun v4 => (Yd_za fun v5 => Yd_rec))))
theorem zd_meet {d : Nat} {x1 : Int} {x2 : Int} {S : ZS} : Yd (fun R => zb_meet R d x1 x2 S) := by
  unfold zb_meet
  exact (Yd_G (Yd_zp fun S1 => (Yd_za fun v2 => (Yd_if (Yd_za fun v3 => (Yd_zs fun S4 => (Yd_za fun v5 => (Yd_zs fun S6 => Yd_rec)))) (Yd_za fun v7 => (Yd_za fun v8 => (Yd_G (Yd_zs fun S9 => Yd_rec))))))))
theorem zd_use {d : Nat} {x1 : Int} {x2 : Int} {S : ZS} : Yd (fun R => zb_use R d x1 x2 S) := by
  unfold zb_use
  exact (Yd_if Yd_k (Yd_I Yd_c fun v2 S1 => (Yd_if (Yd_let fun x3_3 => Yd_rec) Yd_k)))
theorem zd_isTop {d : Nat} {x1 : Int} {S : ZS} : Yd (fun R => zb_isTop R d x1 S) := by
  unfold zb_isTop
  exact (Yd_za fun v1 => (Yd_if Yd_k Yd_k))
theorem zd_ownerOf {d : Nat} {x1 : Int} {S : ZS} : Yd (fun R => zb_ownerOf R d x1 S) := by
  unfold zb_ownerOf
  exact (Yd_za fun v1 => (Yd_G Yd_k))
theorem zd_isUsed {d : Nat} {x1 : Int} {x2 : Int} {S : ZS} : Yd (fun R => zb_isUsed R d x1 x2 S) := by
  unfold zb_isUsed
  exact (Yd_za fun v1 => (Yd_let fun x3_2 => Yd_rec))
theorem zd_instance {d : Nat} {x1 : Int} {S : ZS} : Yd (fun R => zb_instance R d x1 S) := by
  unfold zb_instance
  exact (Yd_if (Yd_G (Yd_I Yd_c fun v2 S1 => Yd_k)) (Yd_G (Yd_zp fun S3 => (Yd_I Yd_c fun v5 S4 => Yd_k))))
theorem zd_made0 {d : Nat} {x1 : Int} {S : ZS} : Yd (fun R => zb_made0 R d x1 S) := by
  unfold zb_made0
  exact (Yd_zp fun S1 => (Yd_I Yd_c fun v3 S2 => Yd_k))
theorem zd_madeFrom {d : Nat} {x1 : Int} {x2 : Int} {S : ZS} : Yd (fun R => zb_madeFrom R d x1 x2 S) := by
  unfold zb_madeFrom
  exact (Yd_zp fun S1 => (Yd_I Yd_c fun v3 S2 => Yd_k))
theorem zd_readSign {d : Nat} {x1 : Int} {S : ZS} : Yd (fun R => zb_readSign R d x1 S) := by
  unfold zb_readSign
  exact (Yd_za fun v1 => (Yd_let fun x2_2 => (Yd_G (Yd_zp fun S3 => (Yd_if (Yd_let fun x3_4 => Yd_rec) (Yd_if Yd_rec Yd_rec))))))
theorem zd_instanceOf {d : Nat} {x1 : Int} {S : ZS} : Yd (fun R => zb_instanceOf R d x1 S) := by
  unfold zb_instanceOf
  exact (Yd_I Yd_c fun v2 S1 => (Yd_let fun x2_3 => (Yd_let fun x3_4 => (Yd_za fun v5 => (Yd_if Yd_rec (Yd_I Yd_c fun v7 S6 => (Yd_let fun x3_8 => Yd_rec)))))))
theorem zd_enter {d : Nat} {x1 : Int} {x2 : Int} {S : ZS} : Yd (fun R => zb_enter R d x1 x2 S) := by
  unfold zb_enter
  exact (Yd_zs fun S1 => (Yd_zs fun S2 => (Yd_za fun v3 => (Yd_if Yd_rec (Yd_za fun v4 => (Yd_if Yd_rec (Yd_za fun v5 => (Yd_if Yd_k (Yd_za fun v6 => (Yd_I Yd_c fun v8 S7 => (Yd_zs fun S9 => Yd_k)))))))))))
theorem zd_copied {d : Nat} {x1 : Int} {S : ZS} : Yd (fun R => zb_copied R d x1 S) := by
  unfold zb_copied
  exact (Yd_let fun x2_1 => (Yd_za fun v2 => (Yd_let fun x3_3 => Yd_rec)))
theorem zd_pend {d : Nat} {x1 : Int} {x2 : Int} {S : ZS} : Yd (fun R => zb_pend R d x1 x2 S) := by
  unfold zb_pend
  exact (Yd_I Yd_c fun v2 S1 => (Yd_if (Yd_let fun x3_3 => Yd_rec) Yd_k))
theorem zd_isFixed {d : Nat} {x1 : Int} {S : ZS} : Yd (fun R => zb_isFixed R d x1 S) := by
  unfold zb_isFixed
  exact (Yd_if Yd_k (Yd_if Yd_k (Yd_if Yd_k (Yd_if Yd_k (Yd_if Yd_k Yd_k)))))
theorem zd_countTop {d : Nat} {x1 : Int} {S : ZS} : Yd (fun R => zb_countTop R d x1 S) := by
  unfold zb_countTop
  exact (Yd_if Yd_k (Yd_G (Yd_zp fun S1 => (Yd_if Yd_k Yd_k))))
theorem zd_patternCon {d : Nat} {x1 : Int} {S : ZS} : Yd (fun R => zb_patternCon R d x1 S) := by
  unfold zb_patternCon
  exact (Yd_za fun v1 => (Yd_I Yd_c fun v3 S2 => (Yd_let fun x2_4 => (Yd_if (Yd_za fun v5 => Yd_k) (Yd_za fun v6 => (Yd_if Yd_rec (Yd_za fun v7 => (Yd_if Yd_rec Yd_rec))))))))
theorem zd_join {d : Nat} {x1 : Int} {x2 : Int} {x3 : Int} {S : ZS} : Yd (fun R => zb_join R d x1 x2 x3 S) := by
  unfold zb_join
  exact (Yd_I Yd_c fun v2 S1 => (Yd_let fun x4_3 => (Yd_if Yd_k Yd_k)))
theorem zd_joined {d : Nat} {x1 : Int} {x2 : Int} {S : ZS} : Yd (fun R => zb_joined R d x1 x2 S) := by
  unfold zb_joined
  exact (Yd_zp fun S1 => (Yd_zp fun S2 => (Yd_V Yd_c fun S3 => (Yd_let fun x3_4 => Yd_rec))))
theorem zd_later {d : Nat} {x1 : Int} {x2 : Int} {S : ZS} : Yd (fun R => zb_later R d x1 x2 S) := by
  unfold zb_later
  exact (Yd_zs fun S1 => (Yd_zs fun S2 => (Yd_G (Yd_zp fun S3 => Yd_k))))
theorem zd_merge {d : Nat} {x1 : Int} {x2 : Int} {S : ZS} : Yd (fun R => zb_merge R d x1 x2 S) := by
  unfold zb_merge
  exact (Yd_if Yd_k (Yd_za fun v1 => (Yd_if (Yd_za fun v2 => (Yd_if (Yd_za fun v3 => (Yd_za fun v4 => (Yd_zs fun S5 => (Yd_V Yd_c fun S6 => Yd_k)))) Yd_rec)) Yd_rec)))
theorem zd_becomes {d : Nat} {x1 : Int} {x2 : Int} {S : ZS} : Yd (fun R => zb_becomes R d x1 x2 S) := by
  unfold zb_becomes
  exact (Yd_za fun v1 => (Yd_za fun v2 => (Yd_let fun x3_3 => (Yd_zs fun S4 => (Yd_zs fun S5 => (Yd_if Yd_k (Yd_za fun v6 => (Yd_zs fun S7 => (Yd_zs fun S8 => (Yd_G (Yd_zp fun S9 => Yd_k)))))))))))
theorem zd_isOrdered {d : Nat} {x1 : Int} {S : ZS} : Yd (fun R => zb_isOrdered R d x1 S) := by
  unfold zb_isOrdered
  exact (Yd_za fun v1 => (Yd_if (Yd_za fun v2 => (Yd_if Yd_k Yd_k)) Yd_k))
theorem zd_mergeRows {d : Nat} {x1 : Int} {x2 : Int} {S : ZS} : Yd (fun R => zb_mergeRows R d x1 x2 S) := by
  unfold zb_mergeRows
  exact (Yd_za fun v1 => (Yd_if Yd_rec Yd_rec))
theorem zd_partOf {d : Nat} {x1 : Int} {x2 : Int} {S : ZS} : Yd (fun R => zb_partOf R d x1 x2 S) := by
  unfold zb_partOf
  exact (Yd_let fun x3_1 => Yd_rec)
theorem zd_allFields {d : Nat} {x1 : Int} {x2 : Int} {S : ZS} : Yd (fun R => zb_allFields R d x1 x2 S) := by
  unfold zb_allFields
  exact (Yd_I Yd_c fun v2 S1 => (Yd_I Yd_c fun v4 S3 => (Yd_if Yd_rec Yd_rec)))
theorem zd_fieldsFrom {d : Nat} {x1 : Int} {S : ZS} : Yd (fun R => zb_fieldsFrom R d x1 S) := by
  unfold zb_fieldsFrom
  exact (Yd_let fun x2_1 => (Yd_let fun x3_2 => Yd_rec))
theorem zd_mergeMade {d : Nat} {x1 : Int} {x2 : Int} {S : ZS} : Yd (fun R => zb_mergeMade R d x1 x2 S) := by
  unfold zb_mergeMade
  exact (Yd_za fun v1 => (Yd_za fun v2 => (Yd_if (Yd_za fun v3 => (Yd_let fun x3_4 => (Yd_za fun v5 => (Yd_let fun x4_6 => (Yd_V Yd_c fun S7 => Yd_rec))))) Yd_k)))
theorem zd_isEndless {d : Nat} {x1 : Int} {S : ZS} : Yd (fun R => zb_isEndless R d x1 S) := by
  unfold zb_isEndless
  exact (Yd_G (Yd_zp fun S1 => (Yd_let fun x2_2 => (Yd_zs fun S3 => (Yd_za fun v4 => (Yd_if (Yd_za fun v5 => Yd_rec) (Yd_za fun v6 => (Yd_if (Yd_za fun v7 => Yd_rec) Yd_rec))))))))
theorem zd_admit {d : Nat}  {S : ZS} : Yd (fun R => zb_admit R d  S) := by
  unfold zb_admit
  exact (Yd_if Yd_k (Yd_G (Yd_zp fun S1 => (Yd_za fun v2 => (Yd_I Yd_c fun v4 S3 => (Yd_let fun x1_5 => (Yd_za fun v6 => (Yd_if (Yd_za fun v7 => (Yd_if Yd_rec (Yd_za fun v8 => (Yd_if (Yd_za fun v9 => (Yd_I Yd_c fun v11 S10 => (Yd_if Yd_k Yd_rec))) (Yd_za fun v12 => (Yd_zs fun S13 => (Yd_za fun v14 => (Yd_if (Yd_za fun v15 => (Yd_za fun v16 => (Yd_if Yd_k Yd_rec))) Yd_rec)))))))) Yd_rec))))))))
theorem zd_isEqualVariable {d : Nat} {x1 : Int} {S : ZS} : Yd (fun R => zb_isEqualVariable R d x1 S) := by
  unfold zb_isEqualVariable
  exact (Yd_za fun v1 => (Yd_if Yd_k (Yd_za fun v2 => (Yd_za fun v3 => (Yd_if Yd_k Yd_k)))))
theorem zd_asks {d : Nat} {x1 : Int} {S : ZS} : Yd (fun R => zb_asks R d x1 S) := by
  unfold zb_asks
  exact (Yd_I Yd_c fun v2 S1 => (Yd_let fun x2_3 => (Yd_za fun v4 => (Yd_if Yd_k (Yd_za fun v5 => (Yd_zs fun S6 => (Yd_zs fun S7 => (Yd_G (Yd_zp fun S8 => Yd_k)))))))))
theorem zd_patternTuple {d : Nat} {x1 : Int} {S : ZS} : Yd (fun R => zb_patternTuple R d x1 S) := by
  unfold zb_patternTuple
  exact (Yd_let fun x2_1 => (Yd_let fun x3_2 => (Yd_za fun v3 => (Yd_let fun x4_4 => Yd_rec))))
theorem zd_patternParts {d : Nat} {x1 : Int} {S : ZS} : Yd (fun R => zb_patternParts R d x1 S) := by
  unfold zb_patternParts
  exact (Yd_let fun x2_1 => (Yd_za fun v2 => (Yd_let fun x3_3 => Yd_rec)))
theorem zd_patternList {d : Nat} {x1 : Int} {S : ZS} : Yd (fun R => zb_patternList R d x1 S) := by
  unfold zb_patternList
  exact (Yd_let fun x2_1 => (Yd_za fun v2 => (Yd_let fun x3_3 => Yd_rec)))
theorem zd_meant {d : Nat} {x1 : Int} {S : ZS} : Yd (fun R => zb_meant R d x1 S) := by
  unfold zb_meant
  exact (Yd_za fun v1 => (Yd_if (Yd_I Yd_c fun v3 S2 => Yd_k) (Yd_if (Yd_I Yd_c fun v6 S5 => Yd_k) (Yd_if (Yd_I Yd_c fun v9 S8 => Yd_k) (Yd_if (Yd_za fun v11 => (Yd_I Yd_c fun v13 S12 => (Yd_let fun x2_14 => (Yd_za fun v15 => (Yd_I Yd_c fun v17 S16 => (Yd_I Yd_c fun v19 S18 => Yd_k)))))) (Yd_I Yd_c fun v22 S21 => Yd_k))))))
theorem zd_toldVariable {d : Nat} {x1 : Int} {S : ZS} : Yd (fun R => zb_toldVariable R d x1 S) := by
  unfold zb_toldVariable
  exact (Yd_G (Yd_let fun x2_1 => Yd_rec))
theorem zd_toldName {d : Nat} {x1 : Int} {S : ZS} : Yd (fun R => zb_toldName R d x1 S) := by
  unfold zb_toldName
  exact (Yd_let fun x2_1 => (Yd_let fun x3_2 => Yd_rec))
theorem zd_toldOne {d : Nat} {x1 : Int} {x2 : Int} {S : ZS} : Yd (fun R => zb_toldOne R d x1 x2 S) := by
  unfold zb_toldOne
  exact (Yd_let fun x3_1 => (Yd_let fun x4_2 => (Yd_let fun x5_3 => (Yd_za fun v4 => (Yd_let fun x6_5 => Yd_rec)))))
theorem zd_typeNamed {d : Nat} {x1 : Int} {S : ZS} : Yd (fun R => zb_typeNamed R d x1 S) := by
  unfold zb_typeNamed
  exact (Yd_let fun x2_1 => Yd_rec)
theorem zd_standsFor {d : Nat} {x1 : Int} {x2 : Int} {S : ZS} : Yd (fun R => zb_standsFor R d x1 x2 S) := by
  unfold zb_standsFor
  exact (Yd_zp fun S1 => (Yd_let fun x3_2 => Yd_rec))
theorem zd_toldRow {d : Nat} {x1 : Int} {S : ZS} : Yd (fun R => zb_toldRow R d x1 S) := by
  unfold zb_toldRow
  exact (Yd_let fun x2_1 => (Yd_za fun v2 => (Yd_let fun x3_3 => Yd_rec)))
theorem zd_patternAs {d : Nat} {x1 : Int} {S : ZS} : Yd (fun R => zb_patternAs R d x1 S) := by
  unfold zb_patternAs
  exact (Yd_za fun v1 => (Yd_I Yd_c fun v3 S2 => (Yd_let fun x2_4 => (Yd_if Yd_rec (Yd_za fun v5 => (Yd_if Yd_rec (Yd_za fun v6 => (Yd_if Yd_rec Yd_rec))))))))
theorem zd_judged {d : Nat} {x1 : Int} {S : ZS} : Yd (fun R => zb_judged R d x1 S) := by
  unfold zb_judged
  exact (Yd_za fun v1 => (Yd_if (Yd_I Yd_c fun v3 S2 => Yd_k) (Yd_if (Yd_I Yd_c fun v6 S5 => Yd_k) (Yd_if (Yd_I Yd_c fun v9 S8 => Yd_k) (Yd_if (Yd_za fun v11 => (Yd_za fun v12 => (Yd_I Yd_c fun v14 S13 => Yd_k))) (Yd_if (Yd_I Yd_c fun v17 S16 => (Yd_let fun x2_18 => (Yd_za fun v19 => (Yd_I Yd_c fun v21 S20 => (Yd_za fun v22 => (Yd_I Yd_c fun v24 S23 => (Yd_I Yd_c fun v26 S25 => Yd_k))))))) (Yd_if (Yd_I Yd_c fun v29 S28 => Yd_k) (Yd_if (Yd_I Yd_c fun v32 S31 => Yd_k) (Yd_if (Yd_I Yd_c fun v35 S34 => Yd_k) (Yd_if (Yd_za fun v37 => (Yd_I Yd_c fun v39 S38 => (Yd_I Yd_c fun v41 S40 => (Yd_za fun v42 => (Yd_za fun v43 => (Yd_V Yd_c fun S44 => (Yd_I Yd_c fun v46 S45 => Yd_k))))))) (Yd_if (Yd_I Yd_c fun v49 S48 => Yd_k) (Yd_if (Yd_za fun v51 => (Yd_I Yd_c fun v53 S52 => (Yd_I Yd_c fun v55 S54 => (Yd_za fun v56 => (Yd_za fun v57 => (Yd_V Yd_c fun S58 => (Yd_za fun v59 => (Yd_I Yd_c fun v61 S60 => (Yd_let fun x3_62 => (Yd_I Yd_c fun v64 S63 => Yd_k)))))))))) (Yd_if (Yd_za fun v66 => (Yd_I Yd_c fun v68 S67 => (Yd_let fun x4_69 => (Yd_za fun v70 => (Yd_za fun v71 => (Yd_I Yd_c fun v73 S72 => (Yd_let fun x5_74 => (Yd_V Yd_c fun S75 => Yd_k)))))))) (Yd_if (Yd_I Yd_c fun v78 S77 => Yd_k) (Yd_if (Yd_I Yd_c fun v81 S80 => Yd_k) (Yd_if (Yd_I Yd_c fun v84 S83 => Yd_k) (Yd_if (Yd_I Yd_c fun v87 S86 => Yd_k) (Yd_if (Yd_I Yd_c fun v90 S89 => Yd_k) (Yd_if (Yd_I Yd_c fun v93 S92 => Yd_k) (Yd_if (Yd_I Yd_c fun v96 S95 => Yd_k) (Yd_if (Yd_I Yd_c fun v99 S98 => Yd_k) (Yd_if (Yd_I Yd_c fun v102 S101 => Yd_k) (Yd_I Yd_c fun v105 S104 => Yd_k)))))))))))))))))))))))
theorem zd_judgedName {d : Nat} {x1 : Int} {x2 : Int} {x3 : Int} {S : ZS} : Yd (fun R => zb_judgedName R d x1 x2 x3 S) := by
  unfold zb_judgedName
  exact (Yd_I Yd_c fun v2 S1 => (Yd_let fun x4_3 => (Yd_if Yd_k (Yd_za fun v4 => (Yd_za fun v5 => (Yd_G (Yd_zs fun S6 => (Yd_za fun v7 => (Yd_zs fun S8 => (Yd_za fun v9 => (Yd_za fun v10 => (Yd_if Yd_rec (Yd_za fun v11 => (Yd_if Yd_rec Yd_rec))))))))))))))
theorem zd_judgedRow {d : Nat} {x1 : Int} {S : ZS} : Yd (fun R => zb_judgedRow R d x1 S) := by
  unfold zb_judgedRow
  exact (Yd_let fun x2_1 => (Yd_za fun v2 => (Yd_let fun x3_3 => Yd_rec)))
theorem zd_judgedTuple {d : Nat} {x1 : Int} {S : ZS} : Yd (fun R => zb_judgedTuple R d x1 S) := by
  unfold zb_judgedTuple
  exact (Yd_let fun x2_1 => (Yd_let fun x3_2 => (Yd_za fun v3 => (Yd_let fun x4_4 => Yd_rec))))
theorem zd_judgedApplication {d : Nat} {x1 : Int} {S : ZS} : Yd (fun R => zb_judgedApplication R d x1 S) := by
  unfold zb_judgedApplication
  exact (Yd_let fun x2_1 => (Yd_let fun x3_2 => Yd_rec))
theorem zd_judgedInfix {d : Nat} {x1 : Int} {S : ZS} : Yd (fun R => zb_judgedInfix R d x1 S) := by
  unfold zb_judgedInfix
  exact (Yd_za fun v1 => (Yd_let fun x2_2 => (Yd_za fun v3 => (Yd_I Yd_c fun v5 S4 => (Yd_let fun x3_6 => (Yd_za fun v7 => (Yd_I Yd_c fun v9 S8 => (Yd_let fun x4_10 => (Yd_za fun v11 => (Yd_I Yd_c fun v13 S12 => (Yd_let fun x5_14 => (Yd_I Yd_c fun v16 S15 => (Yd_let fun x6_17 => (Yd_I Yd_c fun v19 S18 => (Yd_let fun x7_20 => (Yd_I Yd_c fun v22 S21 => (Yd_V Yd_c fun S23 => (Yd_I Yd_c fun v25 S24 => (Yd_V Yd_c fun S26 => Yd_k)))))))))))))))))))
theorem zd_judgedIf {d : Nat} {x1 : Int} {S : ZS} : Yd (fun R => zb_judgedIf R d x1 S) := by
  unfold zb_judgedIf
  exact (Yd_za fun v1 => (Yd_I Yd_c fun v3 S2 => (Yd_let fun x2_4 => (Yd_I Yd_c fun v6 S5 => (Yd_za fun v7 => (Yd_za fun v8 => (Yd_V Yd_c fun S9 => (Yd_za fun v10 => (Yd_I Yd_c fun v12 S11 => (Yd_let fun x3_13 => (Yd_za fun v14 => (Yd_I Yd_c fun v16 S15 => (Yd_let fun x4_17 => (Yd_za fun v18 => (Yd_za fun v19 => (Yd_V Yd_c fun S20 => Yd_k))))))))))))))))
theorem zd_rules {d : Nat} {x1 : Int} {x2 : Int} {x3 : Int} {x4 : Int} {S : ZS} : Yd (fun R => zb_rules R d x1 x2 x3 x4 S) := by
  unfold zb_rules
  exact (Yd_let fun x5_1 => (Yd_let fun x6_2 => (Yd_let fun x7_3 => (Yd_let fun x9_4 => Yd_rec))))
theorem zd_bindPending {d : Nat} {x1 : Int} {S : ZS} : Yd (fun R => zb_bindPending R d x1 S) := by
  unfold zb_bindPending
  exact (Yd_let fun x2_1 => Yd_rec)
theorem zd_countOf {d : Nat} {x1 : Int} {S : ZS} : Yd (fun R => zb_countOf R d x1 S) := by
  unfold zb_countOf
  exact (Yd_za fun v1 => (Yd_if (Yd_za fun v2 => (Yd_if Yd_k (Yd_za fun v3 => (Yd_if Yd_k Yd_k)))) (Yd_if Yd_k (Yd_if Yd_k (Yd_if Yd_k (Yd_if (Yd_let fun x3_8 => (Yd_za fun v9 => (Yd_let fun x4_10 => Yd_rec))) (Yd_if (Yd_za fun v12 => (Yd_I Yd_c fun v14 S13 => (Yd_G Yd_k))) (Yd_if (Yd_za fun v16 => (Yd_I Yd_c fun v18 S17 => Yd_k)) (Yd_if (Yd_za fun v20 => (Yd_I Yd_c fun v22 S21 => Yd_k)) (Yd_if (Yd_let fun x4_24 => (Yd_za fun v25 => (Yd_let fun x5_26 => Yd_rec))) (Yd_if (Yd_za fun v28 => (Yd_I Yd_c fun v30 S29 => (Yd_za fun v31 => (Yd_I Yd_c fun v33 S32 => (Yd_G Yd_k))))) (Yd_if (Yd_let fun x2_35 => (Yd_za fun v36 => (Yd_let fun x3_37 => Yd_rec))) Yd_k))))))))))))
theorem zd_times {d : Nat} {x1 : Int} {x3 : Int} {x4 : Int} {S : ZS} : Yd (fun R => zb_times R d x1 x3 x4 S) := by
  unfold zb_times
  exact (Yd_if Yd_rec (Yd_G Yd_rec))
theorem zd_match_2 {d : Nat} {x1 : Int} {x2 : Int} {S : ZS} : Yd (fun R => zb_match_2 R d x1 x2 S) := by
  unfold zb_match_2
  exact (Yd_zs fun S1 => (Yd_zs fun S2 => (Yd_G (Yd_zp fun S3 => Yd_k))))
theorem zd_judgedFn {d : Nat} {x1 : Int} {S : ZS} : Yd (fun R => zb_judgedFn R d x1 S) := by
  unfold zb_judgedFn
  exact (Yd_I Yd_c fun v2 S1 => (Yd_let fun x2_3 => (Yd_let fun x3_4 => (Yd_let fun x4_5 => (Yd_zp fun S6 => (Yd_zp fun S7 => (Yd_zs fun S8 => (Yd_za fun v9 => (Yd_za fun v10 => (Yd_I Yd_c fun v12 S11 => (Yd_let fun x5_13 => (Yd_let fun x6_14 => (Yd_zs fun S15 => (Yd_V Yd_c fun S16 => (Yd_zp fun S17 => (Yd_zp fun S18 => (Yd_V Yd_c fun S19 => (Yd_I Yd_c fun v21 S20 => Yd_k))))))))))))))))))
theorem zd_endCode {d : Nat} {x1 : Int} {S : ZS} : Yd (fun R => zb_endCode R d x1 S) := by
  unfold zb_endCode
  exact (Yd_za fun v1 => (Yd_G (Yd_let fun x2_2 => (Yd_za fun v3 => (Yd_let fun x3_4 => Yd_rec)))))
theorem zd_judgedOther {d : Nat} {x1 : Int} {S : ZS} : Yd (fun R => zb_judgedOther R d x1 S) := by
  unfold zb_judgedOther
  exact (Yd_za fun v1 => (Yd_if (Yd_za fun v2 => (Yd_I Yd_c fun v4 S3 => (Yd_let fun x2_5 => (Yd_za fun v6 => (Yd_I Yd_c fun v8 S7 => (Yd_za fun v9 => (Yd_I Yd_c fun v11 S10 => (Yd_let fun x3_12 => (Yd_V Yd_c fun S13 => Yd_k))))))))) (Yd_if (Yd_za fun v15 => (Yd_I Yd_c fun v17 S16 => (Yd_let fun x4_18 => (Yd_I Yd_c fun v20 S19 => (Yd_za fun v21 => (Yd_za fun v22 => (Yd_V Yd_c fun S23 => (Yd_za fun v24 => (Yd_I Yd_c fun v26 S25 => (Yd_let fun x5_27 => (Yd_I Yd_c fun v29 S28 => (Yd_za fun v30 => (Yd_za fun v31 => (Yd_V Yd_c fun S32 => (Yd_I Yd_c fun v34 S33 => Yd_k))))))))))))))) (Yd_if (Yd_za fun v36 => (Yd_I Yd_c fun v38 S37 => (Yd_let fun x4_39 => (Yd_I Yd_c fun v41 S40 => (Yd_za fun v42 => (Yd_za fun v43 => (Yd_V Yd_c fun S44 => (Yd_za fun v45 => (Yd_I Yd_c fun v47 S46 => (Yd_let fun x5_48 => (Yd_I Yd_c fun v50 S49 => (Yd_za fun v51 => (Yd_za fun v52 => (Yd_V Yd_c fun S53 => (Yd_I Yd_c fun v55 S54 => Yd_k))))))))))))))) (Yd_if (Yd_za fun v57 => (Yd_I Yd_c fun v59 S58 => (Yd_let fun x6_60 => (Yd_za fun v61 => (Yd_I Yd_c fun v63 S62 => (Yd_za fun v64 => (Yd_za fun v65 => (Yd_V Yd_c fun S66 => Yd_k)))))))) (Yd_if (Yd_za fun v68 => (Yd_I Yd_c fun v70 S69 => Yd_k)) (Yd_if (Yd_I Yd_c fun v73 S72 => Yd_k) (Yd_let fun x7_75 => (Yd_za fun v76 => (Yd_let fun x8_77 => Yd_rec))))))))))
theorem zd_judgedSequence {d : Nat} {x1 : Int} {S : ZS} : Yd (fun R => zb_judgedSequence R d x1 S) := by
  unfold zb_judgedSequence
  exact (Yd_let fun x2_1 => (Yd_let fun x3_2 => Yd_rec))
theorem zd_judgedLet {d : Nat} {x1 : Int} {S : ZS} : Yd (fun R => zb_judgedLet R d x1 S) := by
  unfold zb_judgedLet
  exact (Yd_let fun x2_1 => (Yd_let fun x3_2 => (Yd_let fun x4_3 => (Yd_let fun x5_4 => (Yd_zpZ fun S5 => (Yd_zpZ fun S6 => (Yd_za fun v7 => (Yd_let fun x6_8 => Yd_rec))))))))
theorem zd_does {d : Nat} {x1 : Int} {S : ZS} : Yd (fun R => zb_does R d x1 S) := by
  unfold zb_does
  exact (Yd_za fun v1 => (Yd_if Yd_k (Yd_if Yd_k (Yd_if Yd_k (Yd_if Yd_k (Yd_if Yd_k (Yd_if (Yd_let fun x2_7 => (Yd_za fun v8 => (Yd_let fun x3_9 => Yd_rec))) (Yd_if (Yd_za fun v11 => (Yd_za fun v12 => (Yd_if (Yd_za fun v13 => (Yd_I Yd_c fun v15 S14 => (Yd_if Yd_k (Yd_za fun v16 => (Yd_I Yd_c fun v18 S17 => (Yd_if Yd_k Yd_k)))))) Yd_k))) (Yd_if (Yd_I Yd_c fun v21 S20 => (Yd_if Yd_k (Yd_za fun v22 => (Yd_I Yd_c fun v24 S23 => (Yd_if (Yd_za fun v25 => (Yd_I Yd_c fun v27 S26 => (Yd_if Yd_k Yd_k))) Yd_k))))) (Yd_if Yd_k (Yd_if Yd_k (Yd_if Yd_k (Yd_if Yd_k (Yd_if Yd_k (Yd_if Yd_k (Yd_if Yd_k (Yd_if Yd_k (Yd_if (Yd_za fun v37 => (Yd_I Yd_c fun v39 S38 => Yd_k)) (Yd_if Yd_k (Yd_if Yd_k (Yd_if (Yd_let fun x3_43 => (Yd_za fun v44 => (Yd_let fun x4_45 => Yd_rec))) (Yd_if (Yd_let fun x3_47 => (Yd_za fun v48 => (Yd_let fun x4_49 => Yd_rec))) Yd_k))))))))))))))))))))))
theorem zd_isMaker {d : Nat} {x1 : Int} {S : ZS} : Yd (fun R => zb_isMaker R d x1 S) := by
  unfold zb_isMaker
  exact (Yd_I Yd_c fun v2 S1 => (Yd_if (Yd_I Yd_c fun v4 S3 => (Yd_if Yd_rec Yd_k)) Yd_rec))
theorem zd_kindIn {d : Nat} {x1 : Int} {S : ZS} : Yd (fun R => zb_kindIn R d x1 S) := by
  unfold zb_kindIn
  exact (Yd_za fun v1 => Yd_k)
theorem zd_infoIn {d : Nat} {x1 : Int} {S : ZS} : Yd (fun R => zb_infoIn R d x1 S) := by
  unfold zb_infoIn
  exact (Yd_za fun v1 => Yd_k)
theorem zd_through {d : Nat} {x1 : Int} {x2 : Int} {x3 : Int} {S : ZS} : Yd (fun R => zb_through R d x1 x2 x3 S) := by
  unfold zb_through
  exact (Yd_let fun x4_1 => Yd_rec)
theorem zd_sizeOf {d : Nat} {x1 : Int} {S : ZS} : Yd (fun R => zb_sizeOf R d x1 S) := by
  unfold zb_sizeOf
  exact (Yd_G (Yd_zp fun S1 => (Yd_I Yd_c fun v3 S2 => (Yd_let fun x2_4 => (Yd_za fun v5 => (Yd_if (Yd_let fun x3_6 => Yd_rec) (Yd_I Yd_c fun v8 S7 => (Yd_let fun x3_9 => Yd_rec))))))))
theorem zd_enterSize {d : Nat} {x1 : Int} {x2 : Int} {S : ZS} : Yd (fun R => zb_enterSize R d x1 x2 S) := by
  unfold zb_enterSize
  exact (Yd_zs fun S1 => (Yd_zs fun S2 => (Yd_za fun v3 => (Yd_if Yd_rec (Yd_za fun v4 => (Yd_if Yd_rec Yd_k))))))
theorem zd_markRim {d : Nat} {x1 : Int} {x2 : Int} {S : ZS} : Yd (fun R => zb_markRim R d x1 x2 S) := by
  unfold zb_markRim
  exact (Yd_let fun x3_1 => Yd_rec)
theorem zd_spreadRim {d : Nat} {x1 : Int} {x2 : Int} {S : ZS} : Yd (fun R => zb_spreadRim R d x1 x2 S) := by
  unfold zb_spreadRim
  exact (Yd_I Yd_c fun v2 S1 => (Yd_let fun x3_3 => (Yd_za fun v4 => (Yd_if (Yd_za fun v5 => (Yd_zs fun S6 => (Yd_zs fun S7 => (Yd_let fun x4_8 => Yd_rec)))) Yd_k))))
theorem zd_generalise {d : Nat} {x1 : Int} {S : ZS} : Yd (fun R => zb_generalise R d x1 S) := by
  unfold zb_generalise
  exact (Yd_G (Yd_zp fun S1 => (Yd_I Yd_c fun v3 S2 => (Yd_let fun x2_4 => (Yd_zs fun S5 => (Yd_zs fun S6 => (Yd_let fun x3_7 => Yd_rec)))))))
theorem zd_bindLines {d : Nat} {x1 : Int} {S : ZS} : Yd (fun R => zb_bindLines R d x1 S) := by
  unfold zb_bindLines
  exact (Yd_let fun x2_1 => Yd_rec)
theorem zd_line {d : Nat} {x1 : Int} {x2 : Int} {S : ZS} : Yd (fun R => zb_line R d x1 x2 S) := by
  unfold zb_line
  exact (Yd_if Yd_k (Yd_zs fun S1 => (Yd_zs fun S2 => (Yd_G (Yd_zp fun S3 => Yd_k)))))
theorem zd_judgedRec {d : Nat} {x1 : Int} {S : ZS} : Yd (fun R => zb_judgedRec R d x1 S) := by
  unfold zb_judgedRec
  exact (Yd_I Yd_c fun v2 S1 => (Yd_let fun x2_3 => (Yd_let fun x3_4 => (Yd_zp fun S5 => (Yd_let fun x4_6 => (Yd_let fun x5_7 => (Yd_let fun x6_8 => (Yd_zp fun S9 => (Yd_za fun v10 => (Yd_let fun x7_11 => Yd_rec))))))))))
theorem zd_judgedFun {d : Nat} {x1 : Int} {S : ZS} : Yd (fun R => zb_judgedFun R d x1 S) := by
  unfold zb_judgedFun
  exact (Yd_I Yd_c fun v2 S1 => (Yd_let fun x2_3 => (Yd_let fun x3_4 => (Yd_zp fun S5 => (Yd_let fun x4_6 => (Yd_let fun x5_7 => (Yd_let fun x6_8 => (Yd_zp fun S9 => (Yd_za fun v10 => (Yd_let fun x7_11 => Yd_rec))))))))))
theorem zd_judgedFunction {d : Nat} {x1 : Int} {x2 : Int} {S : ZS} : Yd (fun R => zb_judgedFunction R d x1 x2 S) := by
  unfold zb_judgedFunction
  exact (Yd_za fun v1 => (Yd_let fun x3_2 => (Yd_let fun x4_3 => (Yd_za fun v4 => (Yd_let fun x5_5 => Yd_rec)))))
theorem zd_judgedClause {d : Nat} {x1 : Int} {x2 : Int} {x3 : Int} {x4 : Int} {x5 : Int} {S : ZS} : Yd (fun R => zb_judgedClause R d x1 x2 x3 x4 x5 S) := by
  unfold zb_judgedClause
  exact (Yd_za fun v1 => (Yd_let fun x6_2 => (Yd_za fun v3 => (Yd_za fun v4 => (Yd_if (Yd_let fun x7_5 => (Yd_za fun v6 => (Yd_let fun x8_7 => Yd_rec))) (Yd_za fun v8 => Yd_k))))))
theorem zd_judgedType {d : Nat} {x1 : Int} {S : ZS} : Yd (fun R => zb_judgedType R d x1 S) := by
  unfold zb_judgedType
  exact (Yd_let fun x2_1 => (Yd_let fun x3_2 => (Yd_let fun x4_3 => (Yd_zp fun S4 => (Yd_zp fun S5 => (Yd_za fun v6 => (Yd_I Yd_c fun v8 S7 => (Yd_let fun x5_9 => (Yd_za fun v10 => (Yd_V Yd_c fun S11 => (Yd_za fun v12 => (Yd_I Yd_c fun v14 S13 => (Yd_let fun x6_15 => (Yd_I Yd_c fun v17 S16 => (Yd_if (Yd_zp fun S18 => (Yd_let fun x7_19 => Yd_rec)) (Yd_za fun v20 => Yd_k))))))))))))))))
theorem zd_listed {d : Nat} {x1 : Int} {S : ZS} : Yd (fun R => zb_listed R d x1 S) := by
  unfold zb_listed
  exact (Yd_let fun x2_1 => (Yd_let fun x3_2 => (Yd_let fun x4_3 => (Yd_let fun x5_4 => Yd_rec))))
theorem zd_judgedData {d : Nat} {x1 : Int} {S : ZS} : Yd (fun R => zb_judgedData R d x1 S) := by
  unfold zb_judgedData
  exact (Yd_let fun x2_1 => (Yd_let fun x3_2 => (Yd_let fun x4_3 => (Yd_zp fun S4 => (Yd_zp fun S5 => (Yd_let fun x5_6 => (Yd_za fun v7 => (Yd_let fun x6_8 => Yd_rec))))))))
theorem zd_judgedCons {d : Nat} {x1 : Int} {x2 : Int} {S : ZS} : Yd (fun R => zb_judgedCons R d x1 x2 S) := by
  unfold zb_judgedCons
  exact (Yd_za fun v1 => (Yd_let fun x3_2 => (Yd_zp fun S3 => (Yd_za fun v4 => (Yd_I Yd_c fun v6 S5 => (Yd_let fun x4_7 => (Yd_zs fun S8 => (Yd_za fun v9 => (Yd_let fun x5_10 => Yd_rec)))))))))
theorem zd_conOf {d : Nat} {x1 : Int} {S : ZS} : Yd (fun R => zb_conOf R d x1 S) := by
  unfold zb_conOf
  exact (Yd_za fun v1 => Yd_k)
theorem zd_hasPart0 {d : Nat} {x1 : Int} {S : ZS} : Yd (fun R => zb_hasPart0 R d x1 S) := by
  unfold zb_hasPart0
  exact (Yd_za fun v1 => (Yd_if Yd_k Yd_k))
theorem zd_admits {d : Nat} {x1 : Int} {S : ZS} : Yd (fun R => zb_admits R d x1 S) := by
  unfold zb_admits
  exact (Yd_I Yd_c fun v2 S1 => (Yd_let fun x2_3 => (Yd_G (Yd_zp fun S4 => (Yd_zs fun S5 => (Yd_zs fun S6 => (Yd_let fun x3_7 => Yd_rec)))))))
theorem zd_judgedException {d : Nat} {x1 : Int} {S : ZS} : Yd (fun R => zb_judgedException R d x1 S) := by
  unfold zb_judgedException
  exact (Yd_za fun v1 => (Yd_I Yd_c fun v3 S2 => (Yd_if (Yd_za fun v4 => (Yd_V Yd_c fun S5 => (Yd_let fun x2_6 => (Yd_zp fun S7 => (Yd_za fun v8 => (Yd_if Yd_rec (Yd_za fun v9 => (Yd_I Yd_c fun v11 S10 => Yd_rec)))))))) (Yd_za fun v12 => Yd_k))))
theorem zd_judgedSame {d : Nat} {x1 : Int} {S : ZS} : Yd (fun R => zb_judgedSame R d x1 S) := by
  unfold zb_judgedSame
  exact (Yd_za fun v1 => (Yd_I Yd_c fun v3 S2 => (Yd_let fun x2_4 => (Yd_if (Yd_za fun v5 => Yd_k) (Yd_za fun v6 => (Yd_if (Yd_za fun v7 => (Yd_I Yd_c fun v9 S8 => (Yd_if (Yd_za fun v10 => (Yd_V Yd_c fun S11 => (Yd_za fun v12 => (Yd_let fun x3_13 => (Yd_za fun v14 => (Yd_V Yd_c fun S15 => (Yd_za fun v16 => (Yd_zs fun S17 => (Yd_I Yd_c fun v19 S18 => (Yd_zs fun S20 => (Yd_za fun v21 => (Yd_za fun v22 => (Yd_za fun v23 => (Yd_za fun v24 => (Yd_I Yd_c fun v26 S25 => (Yd_let fun x4_27 => (Yd_V Yd_c fun S28 => Yd_k))))))))))))))))) (Yd_za fun v29 => Yd_k)))) (Yd_za fun v30 => Yd_k)))))))
theorem zd_judgedLocal {d : Nat} {x1 : Int} {S : ZS} : Yd (fun R => zb_judgedLocal R d x1 S) := by
  unfold zb_judgedLocal
  exact (Yd_let fun x2_1 => (Yd_let fun x3_2 => (Yd_let fun x4_3 => (Yd_zpZ fun S4 => (Yd_za fun v5 => (Yd_let fun x5_6 => Yd_rec))))))
theorem zd_finish {d : Nat}  {S : ZS} : Yd (fun R => zb_finish R d  S) := by
  unfold zb_finish
  exact (Yd_let fun x1_1 => (Yd_let fun x2_2 => Yd_rec))
theorem zd_hasUnknown {d : Nat} {x1 : Int} {S : ZS} : Yd (fun R => zb_hasUnknown R d x1 S) := by
  unfold zb_hasUnknown
  exact (Yd_G (Yd_zp fun S1 => (Yd_I Yd_c fun v3 S2 => (Yd_let fun x2_4 => (Yd_zs fun S5 => (Yd_zs fun S6 => (Yd_let fun x3_7 => Yd_rec)))))))
theorem zd_noteAll {d : Nat}  {S : ZS} : Yd (fun R => zb_noteAll R d  S) := by
  unfold zb_noteAll
  exact (Yd_zp fun S1 => (Yd_let fun x1_2 => Yd_rec))
theorem zd_isUseful {d : Nat} {x1 : Int} {x2 : Int} {x3 : Int} {x4 : Int} {S : ZS} : Yd (fun R => zb_isUseful R d x1 x2 x3 x4 S) := by
  unfold zb_isUseful
  exact (Yd_let fun x5_1 => (Yd_zp fun S2 => (Yd_zp fun S3 => (Yd_zp fun S4 => (Yd_let fun x6_5 => Yd_rec)))))
theorem zd_usefulHere {d : Nat} {x1 : Int} {S : ZS} : Yd (fun R => zb_usefulHere R d x1 S) := by
  unfold zb_usefulHere
  exact (Yd_if (Yd_if Yd_k Yd_k) (Yd_I Yd_c fun v2 S1 => (Yd_if (Yd_G (Yd_let fun x2_3 => (Yd_za fun v4 => (Yd_I Yd_c fun v6 S5 => (Yd_let fun x3_7 => (Yd_I Yd_c fun v9 S8 => (Yd_let fun x4_10 => (Yd_let fun x5_11 => (Yd_let fun x6_12 => (Yd_let fun x7_13 => Yd_rec)))))))))) Yd_k)))
theorem zd_takesAll {d : Nat}  {S : ZS} : Yd (fun R => zb_takesAll R d  S) := by
  unfold zb_takesAll
  exact (Yd_let fun x1_1 => Yd_rec)
theorem zd_normal {d : Nat} {x1 : Int} {S : ZS} : Yd (fun R => zb_normal R d x1 S) := by
  unfold zb_normal
  exact (Yd_if (Yd_I Yd_c fun v2 S1 => Yd_k) Yd_k)
theorem zd_bare0 {d : Nat} {x1 : Int} {S : ZS} : Yd (fun R => zb_bare0 R d x1 S) := by
  unfold zb_bare0
  exact (Yd_let fun x2_1 => Yd_rec)
theorem zd_headOf {d : Nat} {x1 : Int} {S : ZS} : Yd (fun R => zb_headOf R d x1 S) := by
  unfold zb_headOf
  exact (Yd_if Yd_k (Yd_if (Yd_if (Yd_za fun v1 => (Yd_let fun x2_2 => (Yd_if Yd_k (Yd_if Yd_k (Yd_if Yd_k (Yd_if (Yd_za fun v3 => Yd_rec) (Yd_if (Yd_I Yd_c fun v5 S4 => Yd_rec) (Yd_if (Yd_I Yd_c fun v7 S6 => Yd_rec) Yd_rec)))))))) Yd_k) Yd_k))
theorem zd_rowStep {d : Nat}  {S : ZS} : Yd (fun R => zb_rowStep R d  S) := by
  unfold zb_rowStep
  exact (Yd_zp fun S1 => (Yd_let fun x1_2 => Yd_rec))
theorem zd_labelsOf {d : Nat} {x1 : Int} {S : ZS} : Yd (fun R => zb_labelsOf R d x1 S) := by
  unfold zb_labelsOf
  exact (Yd_if Yd_k (Yd_if (Yd_za fun v1 => (Yd_if (Yd_let fun x2_2 => (Yd_za fun v3 => (Yd_let fun x3_4 => Yd_rec))) (Yd_za fun v5 => (Yd_let fun x2_6 => Yd_rec)))) (Yd_let fun x2_7 => Yd_rec)))
theorem zd_partAt {d : Nat} {x1 : Int} {x2 : Int} {S : ZS} : Yd (fun R => zb_partAt R d x1 x2 S) := by
  unfold zb_partAt
  exact (Yd_if Yd_k (Yd_if (Yd_if (Yd_za fun v1 => (Yd_if (Yd_za fun v2 => (Yd_let fun x3_3 => (Yd_let fun x4_4 => Yd_rec))) (Yd_za fun v5 => (Yd_let fun x3_6 => Yd_rec)))) (Yd_I Yd_c fun v8 S7 => (Yd_if (Yd_za fun v9 => Yd_k) (Yd_za fun v10 => Yd_k)))) (Yd_za fun v11 => (Yd_let fun x3_12 => (Yd_I Yd_c fun v14 S13 => (Yd_if (Yd_G Yd_k) (Yd_if Yd_k (Yd_G Yd_k))))))))
theorem zd_hasLabel {d : Nat} {x1 : Int} {S : ZS} : Yd (fun R => zb_hasLabel R d x1 S) := by
  unfold zb_hasLabel
  exact (Yd_let fun x2_1 => Yd_rec)
theorem zd_hasPart {d : Nat} {x1 : Int} {S : ZS} : Yd (fun R => zb_hasPart R d x1 S) := by
  unfold zb_hasPart
  exact (Yd_if (Yd_za fun v1 => (Yd_if Yd_k (Yd_za fun v2 => (Yd_if Yd_k (Yd_za fun v3 => (Yd_if (Yd_za fun v4 => (Yd_if Yd_k Yd_k)) Yd_k)))))) (Yd_if Yd_k Yd_k))
theorem zd_narrowed {d : Nat} {x1 : Int} {x2 : Int} {S : ZS} : Yd (fun R => zb_narrowed R d x1 x2 S) := by
  unfold zb_narrowed
  exact (Yd_let fun x3_1 => (Yd_let fun x4_2 => (Yd_G (Yd_let fun x5_3 => (Yd_let fun x6_4 => Yd_rec)))))
theorem zd_agrees {d : Nat} {x1 : Int} {x2 : Int} {S : ZS} : Yd (fun R => zb_agrees R d x1 x2 S) := by
  unfold zb_agrees
  exact (Yd_if (Yd_I Yd_c fun v2 S1 => (Yd_G (Yd_if Yd_k Yd_k))) (Yd_I Yd_c fun v4 S3 => (Yd_if (Yd_I Yd_c fun v6 S5 => (Yd_I Yd_c fun v8 S7 => (Yd_if Yd_k Yd_k))) (Yd_I Yd_c fun v10 S9 => Yd_k))))
theorem zd_makerOf {d : Nat} {x1 : Int} {S : ZS} : Yd (fun R => zb_makerOf R d x1 S) := by
  unfold zb_makerOf
  exact (Yd_if (Yd_za fun v1 => (Yd_if (Yd_za fun v2 => (Yd_if Yd_k Yd_k)) (Yd_za fun v3 => (Yd_if (Yd_za fun v4 => Yd_k) (Yd_I Yd_c fun v6 S5 => Yd_k))))) (Yd_if Yd_k Yd_k))
theorem zd_isSameConstant {d : Nat} {x1 : Int} {x2 : Int} {S : ZS} : Yd (fun R => zb_isSameConstant R d x1 x2 S) := by
  unfold zb_isSameConstant
  exact (Yd_za fun v1 => (Yd_let fun x3_2 => (Yd_if Yd_rec (Yd_if Yd_rec (Yd_if (Yd_za fun v3 => (Yd_if (Yd_za fun v4 => (Yd_za fun v5 => (Yd_I Yd_c fun v7 S6 => (Yd_if Yd_k Yd_k)))) Yd_k)) (Yd_za fun v8 => (Yd_if Yd_k (Yd_za fun v9 => (Yd_if Yd_k (Yd_za fun v10 => (Yd_if Yd_k (Yd_I Yd_c fun v12 S11 => (Yd_I Yd_c fun v14 S13 => (Yd_if Yd_k Yd_k))))))))))))))
theorem zd_order0 {d : Nat} {x1 : Int} {x2 : Int} {S : ZS} : Yd (fun R => zb_order0 R d x1 x2 S) := by
  unfold zb_order0
  exact (Yd_I Yd_c fun v2 S1 => (Yd_I Yd_c fun v4 S3 => (Yd_I Yd_c fun v6 S5 => (Yd_let fun x3_7 => (Yd_let fun x4_8 => Yd_rec)))))
theorem zd_sizeIn {d : Nat} {x1 : Int} {S : ZS} : Yd (fun R => zb_sizeIn R d x1 S) := by
  unfold zb_sizeIn
  exact (Yd_za fun v1 => Yd_k)
theorem zd_byteIn {d : Nat} {x1 : Int} {x2 : Int} {S : ZS} : Yd (fun R => zb_byteIn R d x1 x2 S) := by
  unfold zb_byteIn
  exact (Yd_za fun v1 => Yd_k)
theorem zd_exceptionIn {d : Nat} {x1 : Int} {S : ZS} : Yd (fun R => zb_exceptionIn R d x1 S) := by
  unfold zb_exceptionIn
  exact (Yd_za fun v1 => (Yd_if (Yd_za fun v2 => Yd_k) (Yd_I Yd_c fun v4 S3 => Yd_k)))
theorem zd_partOfPattern {d : Nat} {x1 : Int} {S : ZS} : Yd (fun R => zb_partOfPattern R d x1 S) := by
  unfold zb_partOfPattern
  exact (Yd_if (Yd_za fun v1 => (Yd_if (Yd_za fun v2 => (Yd_G Yd_k)) (Yd_za fun v3 => (Yd_if (Yd_G Yd_k) (Yd_za fun v4 => Yd_k))))) (Yd_G Yd_k))
theorem zd_areAllTold {d : Nat} {x1 : Int} {S : ZS} : Yd (fun R => zb_areAllTold R d x1 S) := by
  unfold zb_areAllTold
  exact (Yd_za fun v1 => (Yd_let fun x2_2 => Yd_rec))
theorem zd_usefulByEach {d : Nat} {x1 : Int} {S : ZS} : Yd (fun R => zb_usefulByEach R d x1 S) := by
  unfold zb_usefulByEach
  exact (Yd_let fun x2_1 => (Yd_let fun x3_2 => (Yd_let fun x4_3 => (Yd_let fun x5_4 => (Yd_let fun x6_5 => (Yd_za fun v6 => (Yd_let fun x7_7 => Yd_rec)))))))
theorem zd_slide {d : Nat} {x1 : Int} {S : ZS} : Yd (fun R => zb_slide R d x1 S) := by
  unfold zb_slide
  exact (Yd_G (Yd_let fun x2_1 => (Yd_let fun x3_2 => Yd_rec)))
theorem zd_note0 {d : Nat} {x1 : Int} {x2 : Int} {S : ZS} : Yd (fun R => zb_note0 R d x1 x2 S) := by
  unfold zb_note0
  exact (Yd_let fun x3_1 => Yd_rec)
theorem zd_giveBack {d : Nat}  {S : ZS} : Yd (fun R => zb_giveBack R d  S) := by
  unfold zb_giveBack
  exact (Yd_za fun v1 => (Yd_zp fun S2 => (Yd_za fun v3 => (Yd_zp fun S4 => (Yd_za fun v5 => (Yd_zp fun S6 => (Yd_za fun v7 => (Yd_zp fun S8 => (Yd_za fun v9 => (Yd_zp fun S10 => (Yd_zp fun S11 => (Yd_za fun v12 => (Yd_zp fun S13 => (Yd_if Yd_k (Yd_za fun v14 => (Yd_zp fun S15 => (Yd_za fun v16 => (Yd_zp fun S17 => (Yd_za fun v18 => (Yd_zp fun S19 => (Yd_za fun v20 => (Yd_zp fun S21 => (Yd_za fun v22 => (Yd_zp fun S23 => (Yd_za fun v24 => (Yd_zp fun S25 => (Yd_za fun v26 => (Yd_zp fun S27 => (Yd_za fun v28 => (Yd_zp fun S29 => (Yd_za fun v30 => (Yd_zp fun S31 => Yd_k))))))))))))))))))))))))))))))))
theorem zd_runAll {d : Nat} {x1 : Int} {S : ZS} : Yd (fun R => zb_runAll R d x1 S) := by
  unfold zb_runAll
  exact (Yd_zp fun S1 => (Yd_zp fun S2 => (Yd_V Yd_c fun S3 => (Yd_V Yd_c fun S4 => Yd_rec))))
theorem zd_push0 {d : Nat} {x1 : Int} {x2 : Int} {x3 : Int} {x5 : Int} {S : ZS} : Yd (fun R => zb_push0 R d x1 x2 x3 x5 S) := by
  unfold zb_push0
  exact (Yd_if Yd_rec Yd_rec)
theorem zd_gives {d : Nat} {x1 : Int} {S : ZS} : Yd (fun R => zb_gives R d x1 S) := by
  unfold zb_gives
  exact (Yd_zp fun S1 => (Yd_zpL fun S2 => Yd_k))
theorem zd_work {d : Nat} {x1 : Int} {x2 : Int} {S : ZS} : Yd (fun R => zb_work R d x1 x2 S) := by
  unfold zb_work
  exact (Yd_let fun x3_1 => Yd_rec)
theorem zd_value {d : Nat} {x0 : Int} {x2 : Int} {S : ZS} : Yd (fun R => zb_value R d x0 x2 S) := by
  unfold zb_value
  exact Yd_k
theorem zd_named0 {d : Nat} {x1 : Int} {S : ZS} : Yd (fun R => zb_named0 R d x1 S) := by
  unfold zb_named0
  exact (Yd_I Yd_c fun v2 S1 => (Yd_let fun x2_3 => (Yd_I Yd_c fun v5 S4 => (Yd_if (Yd_I Yd_c fun v7 S6 => (Yd_if (Yd_J Yd_c fun v9 S8 => Yd_k) (Yd_J Yd_c fun v11 S10 => Yd_k))) (Yd_if (Yd_za fun v13 => (Yd_J Yd_c fun v15 S14 => (Yd_let fun x3_16 => (Yd_za fun v17 => (Yd_if Yd_k Yd_k))))) (Yd_if (Yd_J Yd_c fun v20 S19 => Yd_k) (Yd_za fun v22 => (Yd_J Yd_c fun v24 S23 => Yd_k))))))))
theorem zd_load {d : Nat} {x1 : Int} {S : ZS} : Yd (fun R => zb_load R d x1 S) := by
  unfold zb_load
  exact (Yd_I Yd_c fun v2 S1 => (Yd_if (Yd_I Yd_c fun v4 S3 => (Yd_if (Yd_I Yd_c fun v6 S5 => (Yd_zaL fun v7 => Yd_k)) (Yd_I Yd_c fun v9 S8 => (Yd_I Yd_c fun v11 S10 => (Yd_zaL fun v12 => Yd_k))))) (Yd_I Yd_c fun v14 S13 => (Yd_zaL fun v15 => Yd_k))))
theorem zd_numberOf {d : Nat} {x0 : Int} {S : ZS} : Yd (fun R => zb_numberOf R d x0 S) := by
  unfold zb_numberOf
  exact Yd_k
theorem zd_placeIn {d : Nat} {x1 : Int} {x2 : Int} {S : ZS} : Yd (fun R => zb_placeIn R d x1 x2 S) := by
  unfold zb_placeIn
  exact (Yd_let fun x3_1 => Yd_rec)
theorem zd_closure {d : Nat} {x1 : Int} {S : ZS} : Yd (fun R => zb_closure R d x1 S) := by
  unfold zb_closure
  exact (Yd_za fun v1 => (Yd_let fun x2_2 => (Yd_G (Yd_I Yd_c fun v4 S3 => (Yd_if Yd_k (Yd_I Yd_c fun v6 S5 => (Yd_let fun x3_7 => (Yd_zsL fun S8 => (Yd_let fun x4_9 => Yd_rec)))))))))
theorem zd_cells {d : Nat} {x1 : Int} {S : ZS} : Yd (fun R => zb_cells R d x1 S) := by
  unfold zb_cells
  exact (Yd_G (Yd_if (Yd_zp fun S1 => Yd_k) (Yd_zp fun S2 => Yd_k)))
theorem zd_place {d : Nat} {x1 : Int} {S : ZS} : Yd (fun R => zb_place R d x1 S) := by
  unfold zb_place
  exact (Yd_let fun x2_1 => (Yd_G (Yd_zp fun S2 => Yd_k)))
theorem zd_waitFor {d : Nat} {x1 : Int} {x2 : Int} {x3 : Int} {x4 : Int} {S : ZS} : Yd (fun R => zb_waitFor R d x1 x2 x3 x4 S) := by
  unfold zb_waitFor
  exact (Yd_V Yd_c fun S1 => (Yd_V Yd_c fun S2 => Yd_k))
theorem zd_goTo {d : Nat} {x1 : Int} {x2 : Int} {S : ZS} : Yd (fun R => zb_goTo R d x1 x2 S) := by
  unfold zb_goTo
  exact (Yd_zp fun S1 => (Yd_zpZ fun S2 => Yd_k))
theorem zd_applications0 {d : Nat} {x1 : Int} {x2 : Int} {S : ZS} : Yd (fun R => zb_applications0 R d x1 x2 S) := by
  unfold zb_applications0
  exact (Yd_let fun x3_1 => Yd_rec)
theorem zd_test {d : Nat} {x1 : Int} {S : ZS} : Yd (fun R => zb_test R d x1 S) := by
  unfold zb_test
  exact (Yd_I Yd_c fun v2 S1 => (Yd_if Yd_k (Yd_za fun v3 => (Yd_V Yd_c fun S4 => Yd_k))))
theorem zd_step1 {d : Nat}  {S : ZS} : Yd (fun R => zb_step1 R d  S) := by
  unfold zb_step1
  exact (Yd_if (Yd_zp fun S1 => Yd_k) (Yd_G (Yd_zp fun S2 => Yd_k)))
theorem zd_sequence {d : Nat} {x1 : Int} {x2 : Int} {S : ZS} : Yd (fun R => zb_sequence R d x1 x2 S) := by
  unfold zb_sequence
  exact (Yd_za fun v1 => (Yd_if Yd_rec (Yd_za fun v2 => (Yd_V Yd_c fun S3 => Yd_rec))))
theorem zd_workOther {d : Nat} {x1 : Int} {x2 : Int} {S : ZS} : Yd (fun R => zb_workOther R d x1 x2 S) := by
  unfold zb_workOther
  exact (Yd_za fun v1 => (Yd_let fun x3_2 => (Yd_za fun v3 => (Yd_if (Yd_if (Yd_J Yd_c fun v5 S4 => (Yd_V Yd_c fun S6 => Yd_k)) (Yd_V Yd_c fun S7 => (Yd_za fun v8 => (Yd_V Yd_c fun S9 => Yd_k)))) (Yd_if (Yd_if (Yd_J Yd_c fun v12 S11 => (Yd_V Yd_c fun S13 => Yd_k)) (Yd_V Yd_c fun S14 => (Yd_V Yd_c fun S15 => Yd_k))) (Yd_if (Yd_V Yd_c fun S17 => (Yd_V Yd_c fun S18 => Yd_k)) (Yd_za fun v20 => (Yd_V Yd_c fun S21 => (Yd_V Yd_c fun S22 => (Yd_V Yd_c fun S23 => Yd_k))))))))))
theorem zd_goesOn_2 {d : Nat}  {S : ZS} : Yd (fun R => zb_goesOn_2 R d  S) := by
  unfold zb_goesOn_2
  exact (Yd_G (Yd_zp fun S1 => (Yd_za fun v2 => (Yd_let fun x1_3 => (Yd_za fun v4 => (Yd_G (Yd_let fun x2_5 => (Yd_za fun v6 => (Yd_if Yd_rec Yd_rec)))))))))
theorem zd_raises {d : Nat} {x1 : Int} {S : ZS} : Yd (fun R => zb_raises R d x1 S) := by
  unfold zb_raises
  exact (Yd_zp fun S1 => (Yd_zpL fun S2 => Yd_k))
theorem zd_isTrue {d : Nat} {x1 : Int} {S : ZS} : Yd (fun R => zb_isTrue R d x1 S) := by
  unfold zb_isTrue
  exact (Yd_I Yd_c fun v2 S1 => (Yd_if Yd_k Yd_k))
theorem zd_choose {d : Nat} {x1 : Int} {x2 : Int} {x4 : Int} {x5 : Int} {S : ZS} : Yd (fun R => zb_choose R d x1 x2 x4 x5 S) := by
  unfold zb_choose
  exact (Yd_let fun x6_1 => Yd_rec)
theorem zd_matches {d : Nat} {x1 : Int} {x2 : Int} {S : ZS} : Yd (fun R => zb_matches R d x1 x2 S) := by
  unfold zb_matches
  exact (Yd_za fun v1 => (Yd_if Yd_k (Yd_if (Yd_za fun v3 => (Yd_if (Yd_za fun v4 => (Yd_V Yd_c fun S5 => Yd_k)) (Yd_za fun v6 => (Yd_if (Yd_J Yd_c fun v8 S7 => (Yd_if (Yd_I Yd_c fun v10 S9 => (Yd_za fun v11 => (Yd_if Yd_k Yd_k))) Yd_k)) (Yd_J Yd_c fun v13 S12 => (Yd_if (Yd_za fun v14 => (Yd_J Yd_c fun v16 S15 => (Yd_if Yd_k Yd_k))) Yd_k)))))) (Yd_if (Yd_I Yd_c fun v19 S18 => (Yd_za fun v20 => (Yd_if Yd_k Yd_k))) (Yd_if (Yd_I Yd_c fun v23 S22 => (Yd_za fun v24 => (Yd_I Yd_c fun v26 S25 => (Yd_if Yd_k Yd_k)))) (Yd_if (Yd_I Yd_c fun v29 S28 => (Yd_za fun v30 => (Yd_if Yd_k Yd_k))) (Yd_if (Yd_I Yd_c fun v33 S32 => Yd_k) (Yd_if (Yd_I Yd_c fun v36 S35 => (Yd_if Yd_k (Yd_za fun v37 => (Yd_I Yd_c fun v39 S38 => (Yd_zaL fun v40 => (Yd_I Yd_c fun v42 S41 => (Yd_if Yd_k Yd_k))))))) (Yd_if (Yd_za fun v44 => (Yd_V Yd_c fun S45 => (Yd_za fun v46 => (Yd_I Yd_c fun v48 S47 => Yd_k)))) (Yd_if (Yd_za fun v50 => (Yd_I Yd_c fun v52 S51 => Yd_k)) (Yd_if (Yd_I Yd_c fun v55 S54 => Yd_k) (Yd_if (Yd_I Yd_c fun v58 S57 => (Yd_if Yd_k (Yd_za fun v59 => (Yd_I Yd_c fun v61 S60 => (Yd_zaL fun v62 => (Yd_J Yd_c fun v64 S63 => (Yd_I Yd_c fun v66 S65 => (Yd_if Yd_k (Yd_za fun v67 => (Yd_I Yd_c fun v69 S68 => (Yd_zaL fun v70 => (Yd_J Yd_c fun v72 S71 => (Yd_I Yd_c fun v74 S73 => (Yd_if Yd_k Yd_k)))))))))))))) (Yd_if (Yd_I Yd_c fun v77 S76 => Yd_k) (Yd_I Yd_c fun v80 S79 => (Yd_if Yd_k (Yd_za fun v81 => (Yd_I Yd_c fun v83 S82 => (Yd_zaL fun v84 => (Yd_I Yd_c fun v86 S85 => (Yd_if Yd_k Yd_k))))))))))))))))))))
theorem zd_store {d : Nat} {x1 : Int} {x2 : Int} {S : ZS} : Yd (fun R => zb_store R d x1 x2 S) := by
  unfold zb_store
  exact (Yd_I Yd_c fun v2 S1 => (Yd_if (Yd_I Yd_c fun v4 S3 => (Yd_zsL fun S5 => Yd_k)) (Yd_I Yd_c fun v7 S6 => (Yd_zsL fun S8 => Yd_k))))
theorem zd_kindOf {d : Nat} {x0 : Int} {S : ZS} : Yd (fun R => zb_kindOf R d x0 S) := by
  unfold zb_kindOf
  exact Yd_k
theorem zd_matchesRow {d : Nat} {x1 : Int} {x2 : Int} {S : ZS} : Yd (fun R => zb_matchesRow R d x1 x2 S) := by
  unfold zb_matchesRow
  exact (Yd_let fun x4_1 => (Yd_za fun v2 => (Yd_let fun x5_3 => Yd_rec)))
theorem zd_part {d : Nat} {x1 : Int} {x3 : Int} {S : ZS} : Yd (fun R => zb_part R d x1 x3 S) := by
  unfold zb_part
  exact (Yd_I Yd_c fun v2 S1 => (Yd_let fun x4_3 => (Yd_let fun x5_4 => Yd_rec)))
theorem zd_manyOf {d : Nat} {x1 : Int} {S : ZS} : Yd (fun R => zb_manyOf R d x1 S) := by
  unfold zb_manyOf
  exact (Yd_I Yd_c fun v2 S1 => (Yd_if Yd_k (Yd_I Yd_c fun v4 S3 => (Yd_zaL fun v5 => (Yd_za fun v6 => Yd_k)))))
theorem zd_labelOf {d : Nat} {x1 : Int} {x3 : Int} {S : ZS} : Yd (fun R => zb_labelOf R d x1 x3 S) := by
  unfold zb_labelOf
  exact (Yd_I Yd_c fun v2 S1 => (Yd_zaL fun v3 => (Yd_za fun v4 => (Yd_za fun v5 => Yd_k))))
theorem zd_partOf_2 {d : Nat} {x1 : Int} {x3 : Int} {S : ZS} : Yd (fun R => zb_partOf_2 R d x1 x3 S) := by
  unfold zb_partOf_2
  exact (Yd_I Yd_c fun v2 S1 => (Yd_zaL fun v3 => Yd_k))
theorem zd_matchesTuple {d : Nat} {x1 : Int} {x2 : Int} {S : ZS} : Yd (fun R => zb_matchesTuple R d x1 x2 S) := by
  unfold zb_matchesTuple
  exact (Yd_let fun x4_1 => (Yd_let fun x5_2 => (Yd_za fun v3 => (Yd_let fun x6_4 => Yd_rec))))
theorem zd_matchesList {d : Nat} {x1 : Int} {x2 : Int} {S : ZS} : Yd (fun R => zb_matchesList R d x1 x2 S) := by
  unfold zb_matchesList
  exact (Yd_let fun x4_1 => (Yd_za fun v2 => (Yd_let fun x6_3 => Yd_rec)))
theorem zd_isMadeBy {d : Nat} {x1 : Int} {x2 : Int} {S : ZS} : Yd (fun R => zb_isMadeBy R d x1 x2 S) := by
  unfold zb_isMadeBy
  exact (Yd_I Yd_c fun v2 S1 => (Yd_if (Yd_J Yd_c fun v4 S3 => (Yd_if (Yd_I Yd_c fun v6 S5 => (Yd_zaL fun v7 => (Yd_za fun v8 => (Yd_J Yd_c fun v10 S9 => (Yd_if Yd_k Yd_k))))) Yd_k)) (Yd_J Yd_c fun v12 S11 => (Yd_I Yd_c fun v14 S13 => (Yd_if Yd_rec Yd_rec)))))
theorem zd_back {d : Nat}  {S : ZS} : Yd (fun R => zb_back R d  S) := by
  unfold zb_back
  exact (Yd_G (Yd_zp fun S1 => (Yd_za fun v2 => (Yd_zp fun S3 => (Yd_za fun v4 => (Yd_zp fun S5 => (Yd_za fun v6 => (Yd_zp fun S7 => (Yd_zaL fun v8 => (Yd_zpL fun S9 => Yd_k))))))))))
theorem zd_goesOnMore {d : Nat} {x1 : Int} {x2 : Int} {x3 : Int} {x4 : Int} {S : ZS} : Yd (fun R => zb_goesOnMore R d x1 x2 x3 x4 S) := by
  unfold zb_goesOnMore
  exact (Yd_zaL fun v1 => (Yd_let fun x6_2 => (Yd_if (Yd_za fun v3 => (Yd_if Yd_rec (Yd_za fun v4 => (Yd_V Yd_c fun S5 => Yd_rec)))) (Yd_if (Yd_V Yd_c fun S7 => Yd_k) (Yd_if (Yd_V Yd_c fun S9 => Yd_k) (Yd_if (Yd_V Yd_c fun S11 => Yd_k) (Yd_V Yd_c fun S13 => Yd_k)))))))
theorem zd_apply {d : Nat} {x1 : Int} {x3 : Int} {x5 : Int} {S : ZS} : Yd (fun R => zb_apply R d x1 x3 x5 S) := by
  unfold zb_apply
  exact (Yd_J Yd_c fun v2 S1 => (Yd_if (Yd_I Yd_c fun v4 S3 => (Yd_J Yd_c fun v6 S5 => (Yd_V Yd_c fun S7 => Yd_k))) (Yd_if (Yd_I Yd_c fun v10 S9 => (Yd_if Yd_k (Yd_J Yd_c fun v12 S11 => (Yd_I Yd_c fun v14 S13 => (Yd_zaL fun v15 => (Yd_let fun x6_16 => (Yd_J Yd_c fun v18 S17 => (Yd_if (Yd_I Yd_c fun v20 S19 => (Yd_zaL fun v21 => Yd_rec)) Yd_rec)))))))) (Yd_if (Yd_J Yd_c fun v24 S23 => (Yd_V Yd_c fun S25 => Yd_k)) (Yd_if (Yd_I Yd_c fun v28 S27 => (Yd_J Yd_c fun v30 S29 => (Yd_V Yd_c fun S31 => Yd_k))) (Yd_if (Yd_I Yd_c fun v34 S33 => (Yd_J Yd_c fun v36 S35 => (Yd_V Yd_c fun S37 => Yd_k))) (Yd_I Yd_c fun v40 S39 => (Yd_if Yd_k (Yd_J Yd_c fun v42 S41 => (Yd_I Yd_c fun v44 S43 => (Yd_zaL fun v45 => (Yd_let fun x6_46 => (Yd_J Yd_c fun v48 S47 => (Yd_if (Yd_I Yd_c fun v50 S49 => (Yd_zaL fun v51 => Yd_rec)) Yd_rec))))))))))))))
theorem zd_makes {d : Nat} {x1 : Int} {x2 : Int} {S : ZS} : Yd (fun R => zb_makes R d x1 x2 S) := by
  unfold zb_makes
  exact (Yd_I Yd_c fun v2 S1 => (Yd_if Yd_k (Yd_I Yd_c fun v4 S3 => (Yd_let fun x4_5 => (Yd_zsL fun S6 => (Yd_zsL fun S7 => (Yd_if (Yd_J Yd_c fun v9 S8 => Yd_k) (Yd_J Yd_c fun v11 S10 => Yd_k))))))))
theorem zd_thrownWith {d : Nat} {x1 : Int} {x3 : Int} {S : ZS} : Yd (fun R => zb_thrownWith R d x1 x3 S) := by
  unfold zb_thrownWith
  exact (Yd_I Yd_c fun v2 S1 => (Yd_if Yd_k (Yd_I Yd_c fun v4 S3 => (Yd_let fun x5_5 => (Yd_zsL fun S6 => (Yd_zsL fun S7 => (Yd_J Yd_c fun v9 S8 => Yd_k)))))))
theorem zd_firstOf {d : Nat} {x1 : Int} {x2 : Int} {S : ZS} : Yd (fun R => zb_firstOf R d x1 x2 S) := by
  unfold zb_firstOf
  exact (Yd_I Yd_c fun v2 S1 => (Yd_if (Yd_I Yd_c fun v4 S3 => (Yd_let fun x4_5 => (Yd_I Yd_c fun v7 S6 => (Yd_let fun x6_8 => (Yd_if (Yd_G (Yd_J Yd_c fun v10 S9 => Yd_k)) (Yd_if (Yd_if (Yd_G (Yd_J Yd_c fun v13 S12 => Yd_k)) (Yd_J Yd_c fun v15 S14 => Yd_k)) (Yd_if (Yd_I Yd_c fun v18 S17 => (Yd_if (Yd_J Yd_c fun v20 S19 => Yd_k) (Yd_J Yd_c fun v22 S21 => Yd_k))) (Yd_if (Yd_I Yd_c fun v25 S24 => (Yd_if Yd_k (Yd_let fun x9_26 => Yd_rec))) (Yd_if (Yd_I Yd_c fun v29 S28 => (Yd_J Yd_c fun v31 S30 => Yd_k)) (Yd_if (Yd_J Yd_c fun v34 S33 => Yd_k) (Yd_if (Yd_if (Yd_V Yd_c fun S36 => Yd_k) (Yd_if (Yd_J Yd_c fun v38 S37 => Yd_k) (Yd_V Yd_c fun S39 => Yd_k))) (Yd_if (Yd_I Yd_c fun v42 S41 => (Yd_if Yd_k (Yd_J Yd_c fun v44 S43 => (Yd_let fun x7_45 => (Yd_V Yd_c fun S46 => Yd_k))))) (Yd_if (Yd_I Yd_c fun v49 S48 => (Yd_J Yd_c fun v51 S50 => (Yd_I Yd_c fun v53 S52 => (Yd_I Yd_c fun v55 S54 => (Yd_J Yd_c fun v57 S56 => (Yd_I Yd_c fun v59 S58 => (Yd_I Yd_c fun v61 S60 => (Yd_J Yd_c fun v63 S62 => (Yd_I Yd_c fun v65 S64 => (Yd_J Yd_c fun v67 S66 => Yd_k)))))))))) (Yd_if (Yd_J Yd_c fun v70 S69 => Yd_k) (Yd_if (Yd_J Yd_c fun v73 S72 => Yd_k) (Yd_if (Yd_J Yd_c fun v76 S75 => Yd_k) (Yd_if (Yd_zaL fun v78 => Yd_k) (Yd_I Yd_c fun v81 S80 => (Yd_if Yd_k (Yd_let fun x9_82 => Yd_rec)))))))))))))))))))) (Yd_I Yd_c fun v84 S83 => (Yd_J Yd_c fun v86 S85 => (Yd_I Yd_c fun v88 S87 => (Yd_J Yd_c fun v90 S89 => (Yd_J Yd_c fun v92 S91 => Yd_k)))))))
theorem zd_isOfTwo {d : Nat} {x1 : Int} {S : ZS} : Yd (fun R => zb_isOfTwo R d x1 S) := by
  unfold zb_isOfTwo
  exact (Yd_if Yd_k (Yd_if Yd_k (Yd_if Yd_k Yd_k)))
theorem zd_first {d : Nat} {x1 : Int} {x2 : Int} {x4 : Int} {S : ZS} : Yd (fun R => zb_first R d x1 x2 x4 S) := by
  unfold zb_first
  exact (Yd_I Yd_c fun v2 S1 => (Yd_let fun x6_3 => (Yd_I Yd_c fun v5 S4 => (Yd_let fun x8_6 => (Yd_if (Yd_I Yd_c fun v8 S7 => (Yd_let fun x10_9 => (Yd_if Yd_rec Yd_rec))) (Yd_if (Yd_I Yd_c fun v12 S11 => (Yd_let fun x10_13 => (Yd_if Yd_rec Yd_rec))) (Yd_if (Yd_I Yd_c fun v16 S15 => (Yd_if (Yd_J Yd_c fun v18 S17 => Yd_k) (Yd_J Yd_c fun v20 S19 => Yd_k))) (Yd_if (Yd_I Yd_c fun v23 S22 => (Yd_if (Yd_J Yd_c fun v25 S24 => Yd_k) (Yd_J Yd_c fun v27 S26 => Yd_k))) (Yd_if (Yd_I Yd_c fun v30 S29 => (Yd_if (Yd_J Yd_c fun v32 S31 => Yd_k) (Yd_J Yd_c fun v34 S33 => Yd_k))) (Yd_if (Yd_I Yd_c fun v37 S36 => (Yd_if (Yd_J Yd_c fun v39 S38 => Yd_k) (Yd_J Yd_c fun v41 S40 => Yd_k))) (Yd_if (Yd_G (Yd_J Yd_c fun v44 S43 => Yd_k)) (Yd_if (Yd_G (Yd_J Yd_c fun v47 S46 => Yd_k)) (Yd_if (Yd_G (Yd_J Yd_c fun v50 S49 => Yd_k)) (Yd_if (Yd_if (Yd_V Yd_c fun S52 => Yd_k) (Yd_G (Yd_let fun x11_54 => (Yd_G (Yd_G (Yd_if Yd_rec (Yd_if Yd_rec Yd_rec))))))) (Yd_if (Yd_if (Yd_V Yd_c fun S57 => Yd_k) (Yd_G (Yd_let fun x11_59 => (Yd_G (Yd_G (Yd_if Yd_rec (Yd_if Yd_rec Yd_rec))))))) (Yd_if (Yd_I Yd_c fun v63 S62 => (Yd_zsL fun S64 => (Yd_J Yd_c fun v66 S65 => Yd_k))) (Yd_if (Yd_I Yd_c fun v69 S68 => (Yd_zsL fun S70 => (Yd_J Yd_c fun v72 S71 => Yd_k))) (Yd_if (Yd_I Yd_c fun v75 S74 => (Yd_zsL fun S76 => (Yd_J Yd_c fun v78 S77 => Yd_k))) (Yd_if (Yd_J Yd_c fun v81 S80 => Yd_k) (Yd_I Yd_c fun v84 S83 => (Yd_zsL fun S85 => (Yd_J Yd_c fun v87 S86 => Yd_k))))))))))))))))))))))
theorem zd_areEqual {d : Nat} {x1 : Int} {x3 : Int} {S : ZS} : Yd (fun R => zb_areEqual R d x1 x3 S) := by
  unfold zb_areEqual
  exact (Yd_let fun x5_1 => (Yd_let fun x6_2 => (Yd_let fun x8_3 => Yd_rec)))
theorem zd_rowAhead {d : Nat} {x1 : Int} {x2 : Int} {x3 : Int} {x4 : Int} {S : ZS} : Yd (fun R => zb_rowAhead R d x1 x2 x3 x4 S) := by
  unfold zb_rowAhead
  exact (Yd_zaL fun v1 => (Yd_zpL fun S2 => (Yd_zaL fun v3 => (Yd_zpL fun S4 => (Yd_zaL fun v5 => (Yd_za fun v6 => (Yd_G (Yd_if Yd_k (Yd_zsL fun S7 => (Yd_zs fun S8 => (Yd_G Yd_k)))))))))))
theorem zd_order {d : Nat} {x1 : Int} {x3 : Int} {S : ZS} : Yd (fun R => zb_order R d x1 x3 S) := by
  unfold zb_order
  exact (Yd_J Yd_c fun v2 S1 => (Yd_if (Yd_I Yd_c fun v4 S3 => (Yd_I Yd_c fun v6 S5 => (Yd_I Yd_c fun v8 S7 => Yd_k))) (Yd_I Yd_c fun v10 S9 => (Yd_I Yd_c fun v12 S11 => (Yd_I Yd_c fun v14 S13 => Yd_k)))))
theorem zd_truth {d : Nat} {x1 : Int} {S : ZS} : Yd (fun R => zb_truth R d x1 S) := by
  unfold zb_truth
  exact (Yd_if (Yd_J Yd_c fun v2 S1 => Yd_k) (Yd_J Yd_c fun v4 S3 => Yd_k))
theorem zd_intOf {d : Nat} {x1 : Int} {S : ZS} : Yd (fun R => zb_intOf R d x1 S) := by
  unfold zb_intOf
  exact (Yd_if (Yd_V Yd_c fun S1 => Yd_k) (Yd_if (Yd_J Yd_c fun v3 S2 => Yd_k) (Yd_V Yd_c fun S4 => Yd_k)))
theorem zd_joinedStrings {d : Nat} {x1 : Int} {x3 : Int} {S : ZS} : Yd (fun R => zb_joinedStrings R d x1 x3 S) := by
  unfold zb_joinedStrings
  exact (Yd_I Yd_c fun v2 S1 => (Yd_let fun x5_3 => (Yd_I Yd_c fun v5 S4 => (Yd_let fun x6_6 => (Yd_I Yd_c fun v8 S7 => (Yd_I Yd_c fun v10 S9 => (Yd_G (Yd_let fun x7_11 => (Yd_if (Yd_G (Yd_I Yd_c fun v13 S12 => (Yd_if Yd_k (Yd_J Yd_c fun v15 S14 => (Yd_let fun x8_16 => (Yd_let fun x10_17 => Yd_rec)))))) (Yd_V Yd_c fun S18 => Yd_k))))))))))
theorem zd_stringOf {d : Nat} {x1 : Int} {S : ZS} : Yd (fun R => zb_stringOf R d x1 S) := by
  unfold zb_stringOf
  exact (Yd_let fun x2_1 => (Yd_V Yd_c fun S2 => (Yd_J Yd_c fun v4 S3 => Yd_k)))
theorem zd_substringOf {d : Nat} {x1 : Int} {x2 : Int} {x3 : Int} {S : ZS} : Yd (fun R => zb_substringOf R d x1 x2 x3 S) := by
  unfold zb_substringOf
  exact (Yd_if (Yd_V Yd_c fun S1 => Yd_k) (Yd_if (Yd_V Yd_c fun S2 => Yd_k) (Yd_I Yd_c fun v4 S3 => (Yd_G (Yd_if (Yd_G (Yd_I Yd_c fun v6 S5 => (Yd_if Yd_k (Yd_J Yd_c fun v8 S7 => (Yd_let fun x4_9 => (Yd_let fun x6_10 => Yd_rec)))))) (Yd_V Yd_c fun S11 => Yd_k))))))
theorem zd_exploded {d : Nat} {x1 : Int} {S : ZS} : Yd (fun R => zb_exploded R d x1 S) := by
  unfold zb_exploded
  exact (Yd_J Yd_c fun v2 S1 => (Yd_let fun x2_3 => (Yd_I Yd_c fun v5 S4 => (Yd_G (Yd_let fun x4_6 => Yd_rec)))))
theorem zd_pairOf {d : Nat} {x1 : Int} {x3 : Int} {S : ZS} : Yd (fun R => zb_pairOf R d x1 x3 S) := by
  unfold zb_pairOf
  exact (Yd_I Yd_c fun v2 S1 => (Yd_if Yd_k (Yd_I Yd_c fun v4 S3 => (Yd_let fun x5_5 => (Yd_I Yd_c fun v7 S6 => (Yd_zsL fun S8 => (Yd_zsL fun S9 => (Yd_zsL fun S10 => (Yd_J Yd_c fun v12 S11 => Yd_k)))))))))
theorem zd_tuple {d : Nat} {x1 : Int} {S : ZS} : Yd (fun R => zb_tuple R d x1 S) := by
  unfold zb_tuple
  exact (Yd_za fun v1 => (Yd_if (Yd_zs fun S2 => (Yd_zs fun S3 => (Yd_let fun x2_4 => Yd_rec))) (Yd_za fun v5 => Yd_k)))
theorem zd_imploded {d : Nat} {x1 : Int} {S : ZS} : Yd (fun R => zb_imploded R d x1 S) := by
  unfold zb_imploded
  exact (Yd_let fun x3_1 => (Yd_let fun x4_2 => Yd_rec))
theorem zd_rest {d : Nat} {x1 : Int} {S : ZS} : Yd (fun R => zb_rest R d x1 S) := by
  unfold zb_rest
  exact (Yd_I Yd_c fun v2 S1 => (Yd_zaL fun v3 => (Yd_J Yd_c fun v5 S4 => Yd_k)))
theorem zd_thing {d : Nat} {x1 : Int} {S : ZS} : Yd (fun R => zb_thing R d x1 S) := by
  unfold zb_thing
  exact (Yd_I Yd_c fun v2 S1 => (Yd_zaL fun v3 => (Yd_J Yd_c fun v5 S4 => Yd_k)))
theorem zd_digitsOf {d : Nat} {x1 : Int} {S : ZS} : Yd (fun R => zb_digitsOf R d x1 S) := by
  unfold zb_digitsOf
  exact (Yd_if (Yd_G Yd_rec) Yd_rec)
theorem zd_putOut {d : Nat} {x1 : Int} {S : ZS} : Yd (fun R => zb_putOut R d x1 S) := by
  unfold zb_putOut
  exact (Yd_if (Yd_zs fun S1 => Yd_rec) Yd_rec)
theorem zd_functionOf {d : Nat} {x1 : Int} {S : ZS} : Yd (fun R => zb_functionOf R d x1 S) := by
  unfold zb_functionOf
  exact (Yd_J Yd_c fun v2 S1 => (Yd_if (Yd_I Yd_c fun v4 S3 => (Yd_zaL fun v5 => Yd_k)) Yd_k))
theorem zd_partial {d : Nat} {x1 : Int} {x3 : Int} {x5 : Int} {S : ZS} : Yd (fun R => zb_partial R d x1 x3 x5 S) := by
  unfold zb_partial
  exact (Yd_G (Yd_I Yd_c fun v2 S1 => (Yd_if Yd_k (Yd_I Yd_c fun v4 S3 => (Yd_let fun x6_5 => (Yd_J Yd_c fun v7 S6 => (Yd_zsL fun S8 => (Yd_G (Yd_zsL fun S9 => (Yd_let fun x7_10 => Yd_rec))))))))))
theorem zd_call {d : Nat} {x1 : Int} {x3 : Int} {x5 : Int} {x6 : Int} {S : ZS} : Yd (fun R => zb_call R d x1 x3 x5 x6 S) := by
  unfold zb_call
  exact (Yd_if (Yd_if (Yd_zp fun S1 => Yd_k) (Yd_V Yd_c fun S2 => (Yd_zs fun S3 => (Yd_zs fun S4 => (Yd_zs fun S5 => (Yd_zsL fun S6 => (Yd_G (Yd_zp fun S7 => (Yd_I Yd_c fun v9 S8 => (Yd_zp fun S10 => (Yd_zp fun S11 => Yd_rec))))))))))) Yd_rec)
theorem zd_body {d : Nat}  {S : ZS} : Yd (fun R => zb_body R d  S) := by
  unfold zb_body
  exact (Yd_za fun v1 => (Yd_let fun x1_2 => (Yd_za fun v3 => (Yd_if (Yd_za fun v4 => (Yd_zaL fun v5 => (Yd_V Yd_c fun S6 => Yd_k))) (Yd_za fun v7 => (Yd_let fun x2_8 => Yd_rec))))))
theorem zd_infix {d : Nat} {x1 : Int} {x2 : Int} {x4 : Int} {x6 : Int} {S : ZS} : Yd (fun R => zb_infix R d x1 x2 x4 x6 S) := by
  unfold zb_infix
  exact (Yd_J Yd_c fun v2 S1 => (Yd_let fun x7_3 => (Yd_I Yd_c fun v5 S4 => (Yd_if (Yd_I Yd_c fun v7 S6 => (Yd_J Yd_c fun v9 S8 => (Yd_V Yd_c fun S10 => Yd_k))) (Yd_J Yd_c fun v12 S11 => (Yd_let fun x9_13 => (Yd_if (Yd_V Yd_c fun S14 => Yd_k) Yd_k)))))))
theorem zd_decs0 {d : Nat} {x1 : Int} {S : ZS} : Yd (fun R => zb_decs0 R d x1 S) := by
  unfold zb_decs0
  exact (Yd_V Yd_c fun S1 => (Yd_if Yd_k (Yd_za fun v2 => (Yd_V Yd_c fun S3 => (Yd_za fun v4 => (Yd_if (Yd_za fun v5 => (Yd_za fun v6 => (Yd_za fun v7 => (Yd_V Yd_c fun S8 => Yd_k)))) (Yd_if (Yd_V Yd_c fun S10 => Yd_k) (Yd_if (Yd_V Yd_c fun S12 => Yd_k) (Yd_if Yd_k (Yd_if Yd_k (Yd_if (Yd_za fun v16 => (Yd_za fun v17 => (Yd_J Yd_c fun v19 S18 => (Yd_V Yd_c fun S20 => Yd_k)))) (Yd_if (Yd_za fun v22 => (Yd_za fun v23 => (Yd_J Yd_c fun v25 S24 => (Yd_V Yd_c fun S26 => Yd_k)))) (Yd_if (Yd_za fun v28 => (Yd_V Yd_c fun S29 => (Yd_za fun v30 => (Yd_V Yd_c fun S31 => Yd_k)))) Yd_k)))))))))))))
theorem zd_rec {d : Nat} {x1 : Int} {S : ZS} : Yd (fun R => zb_rec R d x1 S) := by
  unfold zb_rec
  exact (Yd_za fun v1 => (Yd_let fun x2_2 => Yd_rec))
theorem zd_nameIn {d : Nat} {x1 : Int} {S : ZS} : Yd (fun R => zb_nameIn R d x1 S) := by
  unfold zb_nameIn
  exact (Yd_let fun x2_1 => Yd_rec)
theorem zd_tie {d : Nat} {x1 : Int} {x2 : Int} {S : ZS} : Yd (fun R => zb_tie R d x1 x2 S) := by
  unfold zb_tie
  exact (Yd_let fun x4_1 => Yd_rec)
theorem zd_fun {d : Nat} {x1 : Int} {S : ZS} : Yd (fun R => zb_fun R d x1 S) := by
  unfold zb_fun
  exact (Yd_za fun v1 => (Yd_let fun x2_2 => Yd_rec))
theorem zd_bound {d : Nat} {x1 : Int} {x2 : Int} {S : ZS} : Yd (fun R => zb_bound R d x1 x2 S) := by
  unfold zb_bound
  exact (Yd_za fun v1 => (Yd_I Yd_c fun v3 S2 => (Yd_if (Yd_V Yd_c fun S4 => Yd_k) (Yd_V Yd_c fun S5 => (Yd_za fun v6 => (Yd_if Yd_k (Yd_za fun v7 => (Yd_za fun v8 => (Yd_za fun v9 => (Yd_V Yd_c fun S10 => Yd_k))))))))))
theorem zd_oneMore {d : Nat} {x1 : Int} {x2 : Int} {x3 : Int} {x4 : Int} {S : ZS} : Yd (fun R => zb_oneMore R d x1 x2 x3 x4 S) := by
  unfold zb_oneMore
  exact (Yd_V Yd_c fun S1 => (Yd_za fun v2 => (Yd_let fun x6_3 => (Yd_if (Yd_let fun x7_4 => (Yd_za fun v5 => (Yd_let fun x8_6 => Yd_rec))) (Yd_V Yd_c fun S7 => (Yd_if (Yd_za fun v8 => (Yd_V Yd_c fun S9 => Yd_k)) (Yd_V Yd_c fun S10 => Yd_k)))))))
theorem zd_listOf {d : Nat} {x1 : Int} {S : ZS} : Yd (fun R => zb_listOf R d x1 S) := by
  unfold zb_listOf
  exact (Yd_J Yd_c fun v2 S1 => (Yd_let fun x2_3 => (Yd_G (Yd_let fun x4_4 => Yd_rec))))
theorem zd_rowOf {d : Nat} {x1 : Int} {x2 : Int} {x3 : Int} {S : ZS} : Yd (fun R => zb_rowOf R d x1 x2 x3 S) := by
  unfold zb_rowOf
  exact (Yd_G (Yd_I Yd_c fun v2 S1 => (Yd_if Yd_k (Yd_I Yd_c fun v4 S3 => (Yd_let fun x4_5 => (Yd_if (Yd_I Yd_c fun v7 S6 => Yd_rec) (Yd_I Yd_c fun v9 S8 => Yd_rec)))))))
theorem zd_shapeOf {d : Nat} {x1 : Int} {S : ZS} : Yd (fun R => zb_shapeOf R d x1 S) := by
  unfold zb_shapeOf
  exact (Yd_za fun v1 => (Yd_if (Yd_let fun x2_2 => (Yd_zs fun S3 => (Yd_za fun v4 => (Yd_let fun x3_5 => Yd_rec)))) (Yd_za fun v6 => Yd_k)))
theorem zd_isAhead {d : Nat} {x1 : Int} {x2 : Int} {S : ZS} : Yd (fun R => zb_isAhead R d x1 x2 S) := by
  unfold zb_isAhead
  exact (Yd_if Yd_rec (Yd_if Yd_rec (Yd_za fun v1 => (Yd_za fun v2 => (Yd_I Yd_c fun v4 S3 => (Yd_let fun x3_5 => (Yd_let fun x4_6 => Yd_rec)))))))
theorem zd_likeShape {d : Nat} {x1 : Int} {S : ZS} : Yd (fun R => zb_likeShape R d x1 S) := by
  unfold zb_likeShape
  exact (Yd_let fun x2_1 => Yd_rec)
theorem zd_unwind {d : Nat}  {S : ZS} : Yd (fun R => zb_unwind R d  S) := by
  unfold zb_unwind
  exact (Yd_if (Yd_if Yd_k (Yd_G (Yd_zp fun S1 => (Yd_za fun v2 => (Yd_let fun x1_3 => (Yd_if (Yd_V Yd_c fun S4 => Yd_rec) Yd_rec)))))) Yd_k)
theorem zd_keepBound {d : Nat}  {S : ZS} : Yd (fun R => zb_keepBound R d  S) := by
  unfold zb_keepBound
  exact (Yd_V Yd_c fun S1 => (Yd_V Yd_c fun S2 => (Yd_za fun v3 => (Yd_let fun x1_4 => (Yd_let fun x2_5 => (Yd_let fun x3_6 => Yd_rec))))))
theorem zd_keepInfix {d : Nat}  {S : ZS} : Yd (fun R => zb_keepInfix R d  S) := by
  unfold zb_keepInfix
  exact (Yd_let fun x1_1 => (Yd_let fun x2_2 => Yd_rec))
theorem zd_keepTypes {d : Nat}  {S : ZS} : Yd (fun R => zb_keepTypes R d  S) := by
  unfold zb_keepTypes
  exact (Yd_let fun x1_1 => (Yd_let fun x2_2 => Yd_rec))
theorem zd_endOf {d : Nat} {x1 : Int} {S : ZS} : Yd (fun R => zb_endOf R d x1 S) := by
  unfold zb_endOf
  exact (Yd_za fun v1 => (Yd_let fun x2_2 => (Yd_G (Yd_let fun x3_3 => (Yd_if Yd_k (Yd_if Yd_rec Yd_rec))))))
theorem zd_noteLines {d : Nat}  {S : ZS} : Yd (fun R => zb_noteLines R d  S) := by
  unfold zb_noteLines
  exact (Yd_zp fun S1 => (Yd_let fun x1_2 => Yd_rec))
theorem zd_told {d : Nat} {x1 : Int} {S : ZS} : Yd (fun R => zb_told R d x1 S) := by
  unfold zb_told
  exact (Yd_zp fun S1 => (Yd_if Yd_k (Yd_if Yd_k (Yd_if Yd_k (Yd_if (Yd_if Yd_k Yd_k) (Yd_if Yd_k (Yd_if Yd_k (Yd_if Yd_k (Yd_if Yd_k (Yd_if Yd_k (Yd_if (Yd_if Yd_k (Yd_V Yd_c fun S9 => Yd_k)) Yd_k)))))))))))
theorem zd_tell {d : Nat} {x1 : Int} {S : ZS} : Yd (fun R => zb_tell R d x1 S) := by
  unfold zb_tell
  exact (Yd_if Yd_k (Yd_zp fun S1 => (Yd_zp fun S2 => (Yd_zp fun S3 => (Yd_zp fun S4 => (Yd_zp fun S5 => (Yd_zp fun S6 => (Yd_if (Yd_V Yd_c fun S7 => Yd_k) (Yd_za fun v8 => (Yd_if (Yd_V Yd_c fun S9 => (Yd_za fun v10 => (Yd_V Yd_c fun S11 => (Yd_V Yd_c fun S12 => (Yd_za fun v13 => (Yd_I Yd_c fun v15 S14 => (Yd_zaL fun v16 => (Yd_V Yd_c fun S17 => (Yd_V Yd_c fun S18 => (Yd_za fun v19 => (Yd_I Yd_c fun v21 S20 => (Yd_V Yd_c fun S22 => Yd_k)))))))))))) (Yd_if (Yd_za fun v24 => (Yd_za fun v25 => (Yd_V Yd_c fun S26 => Yd_k))) (Yd_if (Yd_za fun v28 => (Yd_V Yd_c fun S29 => Yd_k)) (Yd_V Yd_c fun S31 => (Yd_za fun v32 => (Yd_V Yd_c fun S33 => (Yd_za fun v34 => (Yd_za fun v35 => (Yd_if Yd_k (Yd_V Yd_c fun S36 => (Yd_za fun v37 => (Yd_I Yd_c fun v39 S38 => (Yd_za fun v40 => (Yd_za fun v41 => (Yd_V Yd_c fun S42 => Yd_k))))))))))))))))))))))))
theorem zd_sayValue {d : Nat} {x1 : Int} {x3 : Int} {S : ZS} : Yd (fun R => zb_sayValue R d x1 x3 S) := by
  unfold zb_sayValue
  exact (Yd_I Yd_c fun v2 S1 => (Yd_if (Yd_if (Yd_V Yd_c fun S3 => Yd_k) (Yd_I Yd_c fun v5 S4 => (Yd_let fun x4_6 => (Yd_J Yd_c fun v8 S7 => (Yd_if (Yd_V Yd_c fun S9 => Yd_k) (Yd_if (Yd_V Yd_c fun S11 => (Yd_V Yd_c fun S12 => (Yd_V Yd_c fun S13 => Yd_k))) (Yd_if (Yd_V Yd_c fun S15 => (Yd_let fun x5_16 => Yd_rec)) (Yd_if (Yd_if (Yd_V Yd_c fun S18 => Yd_k) (Yd_za fun v19 => (Yd_V Yd_c fun S20 => Yd_k))) (Yd_if (Yd_V Yd_c fun S22 => Yd_k) (Yd_if (Yd_V Yd_c fun S24 => Yd_k) (Yd_if (Yd_V Yd_c fun S26 => (Yd_zaL fun v27 => (Yd_G (Yd_V Yd_c fun S28 => Yd_k)))) (Yd_if (Yd_V Yd_c fun S30 => Yd_k) (Yd_if (Yd_V Yd_c fun S32 => Yd_k) (Yd_if (Yd_V Yd_c fun S34 => Yd_k) (Yd_if (Yd_I Yd_c fun v37 S36 => (Yd_za fun v38 => (Yd_V Yd_c fun S39 => Yd_k))) (Yd_if (Yd_V Yd_c fun S41 => Yd_k) (Yd_if (Yd_V Yd_c fun S43 => Yd_k) (Yd_if (Yd_V Yd_c fun S45 => Yd_k) (Yd_if (Yd_zaL fun v47 => (Yd_I Yd_c fun v49 S48 => (Yd_za fun v50 => (Yd_V Yd_c fun S51 => (Yd_zaL fun v52 => (Yd_G (Yd_V Yd_c fun S53 => Yd_k))))))) (Yd_V Yd_c fun S55 => Yd_k)))))))))))))))))))) Yd_k))
theorem zd_isFull {d : Nat}  {S : ZS} : Yd (fun R => zb_isFull R d  S) := by
  unfold zb_isFull
  exact (Yd_if Yd_k Yd_k)
theorem zd_say {d : Nat} {x1 : Int} {S : ZS} : Yd (fun R => zb_say R d x1 S) := by
  unfold zb_say
  exact (Yd_if Yd_k (Yd_zs fun S1 => (Yd_G (Yd_zp fun S2 => Yd_k))))
theorem zd_sayInt {d : Nat} {x1 : Int} {S : ZS} : Yd (fun R => zb_sayInt R d x1 S) := by
  unfold zb_sayInt
  exact (Yd_if (Yd_G Yd_rec) Yd_rec)
theorem zd_sayByte {d : Nat} {x1 : Int} {S : ZS} : Yd (fun R => zb_sayByte R d x1 S) := by
  unfold zb_sayByte
  exact (Yd_if (Yd_V Yd_c fun S1 => Yd_k) (Yd_if (Yd_V Yd_c fun S2 => Yd_k) (Yd_if Yd_rec (Yd_if Yd_rec (Yd_if Yd_rec (Yd_if (Yd_V Yd_c fun S3 => Yd_k) Yd_rec))))))
theorem zd_sayName {d : Nat} {x1 : Int} {S : ZS} : Yd (fun R => zb_sayName R d x1 S) := by
  unfold zb_sayName
  exact (Yd_let fun x2_1 => Yd_rec)
theorem zd_sayRow {d : Nat} {x1 : Int} {x3 : Int} {S : ZS} : Yd (fun R => zb_sayRow R d x1 x3 S) := by
  unfold zb_sayRow
  exact (Yd_I Yd_c fun v2 S1 => (Yd_let fun x4_3 => (Yd_if (Yd_let fun x5_4 => (Yd_let fun x6_5 => Yd_rec)) (Yd_let fun x5_6 => (Yd_let fun x6_7 => Yd_rec)))))
theorem zd_sayLabel {d : Nat} {x1 : Int} {S : ZS} : Yd (fun R => zb_sayLabel R d x1 S) := by
  unfold zb_sayLabel
  exact (Yd_if (Yd_G (Yd_V Yd_c fun S1 => Yd_k)) (Yd_V Yd_c fun S2 => Yd_k))
theorem zd_sayBehind {d : Nat} {x1 : Int} {x3 : Int} {S : ZS} : Yd (fun R => zb_sayBehind R d x1 x3 S) := by
  unfold zb_sayBehind
  exact (Yd_I Yd_c fun v2 S1 => (Yd_if Yd_rec (Yd_if Yd_rec Yd_rec)))
theorem zd_isApplied {d : Nat} {x1 : Int} {S : ZS} : Yd (fun R => zb_isApplied R d x1 S) := by
  unfold zb_isApplied
  exact (Yd_J Yd_c fun v2 S1 => (Yd_let fun x3_3 => (Yd_if (Yd_I Yd_c fun v5 S4 => (Yd_if Yd_rec Yd_k)) Yd_rec)))
theorem zd_numberOfCon {d : Nat} {x1 : Int} {S : ZS} : Yd (fun R => zb_numberOfCon R d x1 S) := by
  unfold zb_numberOfCon
  exact (Yd_I Yd_c fun v2 S1 => (Yd_zaL fun v3 => Yd_k))
theorem zd_sayMade {d : Nat} {x1 : Int} {x3 : Int} {S : ZS} : Yd (fun R => zb_sayMade R d x1 x3 S) := by
  unfold zb_sayMade
  exact (Yd_I Yd_c fun v2 S1 => (Yd_let fun x4_3 => (Yd_I Yd_c fun v5 S4 => (Yd_if (Yd_V Yd_c fun S6 => (Yd_let fun x5_7 => (Yd_let fun x6_8 => Yd_rec))) (Yd_I Yd_c fun v10 S9 => (Yd_za fun v11 => (Yd_V Yd_c fun S12 => (Yd_zaL fun v13 => (Yd_G (Yd_V Yd_c fun S14 => Yd_k))))))))))
theorem zd_toldAs {d : Nat} {x0 : Int} {S : ZS} : Yd (fun R => zb_toldAs R d x0 S) := by
  unfold zb_toldAs
  exact Yd_k
theorem zd_shown {d : Nat} {x1 : Int} {S : ZS} : Yd (fun R => zb_shown R d x1 S) := by
  unfold zb_shown
  exact (Yd_zp fun S1 => (Yd_G (Yd_I Yd_c fun v3 S2 => Yd_k)))
theorem zd_sayType {d : Nat} {x1 : Int} {x2 : Int} {S : ZS} : Yd (fun R => zb_sayType R d x1 x2 S) := by
  unfold zb_sayType
  exact (Yd_I Yd_c fun v2 S1 => (Yd_let fun x3_3 => (Yd_za fun v4 => (Yd_if (Yd_V Yd_c fun S5 => Yd_k) (Yd_za fun v6 => (Yd_if (Yd_V Yd_c fun S7 => Yd_k) (Yd_za fun v8 => (Yd_if (Yd_za fun v9 => (Yd_if Yd_rec Yd_rec)) Yd_rec))))))))
theorem zd_sayVariable {d : Nat} {x1 : Int} {S : ZS} : Yd (fun R => zb_sayVariable R d x1 S) := by
  unfold zb_sayVariable
  exact (Yd_let fun x2_1 => Yd_rec)
theorem zd_isTuple {d : Nat} {x1 : Int} {S : ZS} : Yd (fun R => zb_isTuple R d x1 S) := by
  unfold zb_isTuple
  exact (Yd_let fun x2_1 => (Yd_za fun v2 => (Yd_let fun x3_3 => Yd_rec)))
theorem zd_sayRowType {d : Nat} {x1 : Int} {S : ZS} : Yd (fun R => zb_sayRowType R d x1 S) := by
  unfold zb_sayRowType
  exact (Yd_za fun v1 => (Yd_if (Yd_V Yd_c fun S2 => Yd_k) (Yd_V Yd_c fun S3 => (Yd_let fun x2_4 => (Yd_let fun x3_5 => (Yd_let fun x4_6 => Yd_rec))))))
theorem zd_sayMadeType {d : Nat} {x1 : Int} {S : ZS} : Yd (fun R => zb_sayMadeType R d x1 S) := by
  unfold zb_sayMadeType
  exact (Yd_za fun v1 => (Yd_let fun x2_2 => (Yd_if Yd_rec (Yd_za fun v3 => (Yd_if (Yd_za fun v4 => (Yd_V Yd_c fun S5 => (Yd_V Yd_c fun S6 => Yd_rec))) Yd_rec)))))
theorem zd_tellType {d : Nat} {x1 : Int} {x2 : Int} {S : ZS} : Yd (fun R => zb_tellType R d x1 x2 S) := by
  unfold zb_tellType
  exact (Yd_V Yd_c fun S1 => (Yd_za fun v2 => (Yd_V Yd_c fun S3 => (Yd_za fun v4 => (Yd_V Yd_c fun S5 => (Yd_V Yd_c fun S6 => (Yd_let fun x3_7 => (Yd_zp fun S8 => (Yd_za fun v9 => (Yd_let fun x4_10 => Yd_rec))))))))))
theorem zd_sayVars {d : Nat} {x1 : Int} {S : ZS} : Yd (fun R => zb_sayVars R d x1 S) := by
  unfold zb_sayVars
  exact (Yd_zp fun S1 => (Yd_if Yd_k (Yd_za fun v2 => (Yd_if Yd_rec Yd_rec))))
theorem zd_tellData {d : Nat} {x1 : Int} {S : ZS} : Yd (fun R => zb_tellData R d x1 S) := by
  unfold zb_tellData
  exact (Yd_za fun v1 => (Yd_let fun x2_2 => (Yd_V Yd_c fun S3 => (Yd_za fun v4 => (Yd_V Yd_c fun S5 => (Yd_za fun v6 => (Yd_V Yd_c fun S7 => (Yd_V Yd_c fun S8 => (Yd_za fun v9 => (Yd_let fun x3_10 => Yd_rec))))))))))
theorem zd_listed0 {d : Nat} {x1 : Int} {S : ZS} : Yd (fun R => zb_listed0 R d x1 S) := by
  unfold zb_listed0
  exact (Yd_zp fun S1 => (Yd_let fun x2_2 => Yd_rec))
theorem zd_letter {d : Nat} {x1 : Int} {x2 : Int} {S : ZS} : Yd (fun R => zb_letter R d x1 x2 S) := by
  unfold zb_letter
  exact (Yd_zp fun S1 => (Yd_if (Yd_if Yd_k Yd_rec) (Yd_if Yd_k (Yd_if Yd_rec Yd_k))))
theorem zd_note {d : Nat} {x1 : Int} {x2 : Int} {S : ZS} : Yd (fun R => zb_note R d x1 x2 S) := by
  unfold zb_note
  exact (Yd_zp fun S1 => (Yd_if Yd_k (Yd_if (Yd_if Yd_k (Yd_if (Yd_if (Yd_za fun v2 => Yd_k) (Yd_za fun v3 => Yd_k)) Yd_k)) Yd_k)))
theorem zd_out {d : Nat} {x1 : Int} {S : ZS} : Yd (fun R => zb_out R d x1 S) := by
  unfold zb_out
  exact (Yd_zp fun S1 => (Yd_if Yd_k (Yd_if (Yd_if (Yd_za fun v2 => Yd_k) Yd_k) Yd_k)))
theorem zd_outs {d : Nat}  {S : ZS} : Yd (fun R => zb_outs R d  S) := by
  unfold zb_outs
  exact (Yd_zp fun S1 => Yd_k)
theorem zd_keep_2 {d : Nat}  {S : ZS} : Yd (fun R => zb_keep_2 R d  S) := by
  unfold zb_keep_2
  exact (Yd_zp fun S1 => (Yd_if Yd_k (Yd_zs fun S2 => (Yd_zs fun S3 => (Yd_zs fun S4 => (Yd_G (Yd_zp fun S5 => (Yd_G Yd_k))))))))
theorem zd_back_2 {d : Nat} {x1 : Int} {S : ZS} : Yd (fun R => zb_back_2 R d x1 S) := by
  unfold zb_back_2
  exact (Yd_zp fun S1 => (Yd_if Yd_k (Yd_if (Yd_za fun v2 => (Yd_zp fun S3 => (Yd_za fun v4 => (Yd_zp fun S5 => (Yd_za fun v6 => (Yd_zp fun S7 => Yd_k)))))) Yd_k)))
theorem zd_clear {d : Nat}  {S : ZS} : Yd (fun R => zb_clear R d  S) := by
  unfold zb_clear
  exact (Yd_zp fun S1 => (Yd_zp fun S2 => (Yd_zp fun S3 => (Yd_zp fun S4 => (Yd_zp fun S5 => (Yd_zp fun S6 => (Yd_zp fun S7 => (Yd_zp fun S8 => (Yd_zp fun S9 => (Yd_zp fun S10 => (Yd_zp fun S11 => (Yd_zp fun S12 => (Yd_zp fun S13 => (Yd_zpZ fun S14 => (Yd_zp fun S15 => (Yd_zp fun S16 => (Yd_zpZ fun S17 => (Yd_zp fun S18 => (Yd_zp fun S19 => (Yd_zp fun S20 => (Yd_zp fun S21 => Yd_k)))))))))))))))))))))
theorem zd_feed_p23 {d : Nat} {x1 : Int} {x2 : Int} {x3 : Int} {x4 : Int} {x5 : Int} {x6 : Int} {S : ZS} : Yd (fun R => zb_feed_p23 R d x1 x2 x3 x4 x5 x6 S) := by
  unfold zb_feed_p23
  exact (Yd_if (Yd_if Yd_rec (Yd_if Yd_rec (Yd_if Yd_rec (Yd_if Yd_rec Yd_rec)))) (Yd_G (Yd_zp fun S1 => Yd_k)))
theorem zd_end_p21 {d : Nat} {x1 : Int} {x2 : Int} {S : ZS} : Yd (fun R => zb_end_p21 R d x1 x2 S) := by
  unfold zb_end_p21
  exact (Yd_if (Yd_za fun v1 => (Yd_zs fun S2 => (Yd_G (Yd_let fun x2_3 => Yd_rec)))) (Yd_zp fun S4 => (Yd_zp fun S5 => Yd_k)))
theorem zd_type_p42 {d : Nat} {x3 : Int} {x4 : Int} {x6 : Int} {y0 : Int} {y1 : Int} {S : ZS} : Yd (fun R => zb_type_p42 R d x3 x4 x6 y0 y1 S) := by
  unfold zb_type_p42
  exact (Yd_zs fun S1 => (Yd_zs fun S2 => (Yd_zs fun S3 => Yd_k)))
theorem zd_sign0_p50 {d : Nat} {x3 : Int} {S : ZS} : Yd (fun R => zb_sign0_p50 R d x3 S) := by
  unfold zb_sign0_p50
  exact (Yd_if Yd_k (Yd_za fun v1 => (Yd_V Yd_c fun S2 => (Yd_za fun v3 => (Yd_let fun x3_4 => Yd_rec)))))
theorem zd_sign0_p98 {d : Nat} {x2 : Int} {x3 : Int} {x4 : Int} {S : ZS} : Yd (fun R => zb_sign0_p98 R d x2 x3 x4 S) := by
  unfold zb_sign0_p98
  exact (Yd_if (Yd_G (Yd_zs fun S1 => (Yd_G (Yd_zp fun S2 => (Yd_za fun v3 => (Yd_let fun x4_4 => Yd_rec)))))) (Yd_G (Yd_let fun x3_5 => (Yd_za fun v6 => (Yd_let fun x4_7 => Yd_rec)))))
theorem zd_sign0_p211 {d : Nat} {x2 : Int} {x3 : Int} {S : ZS} : Yd (fun R => zb_sign0_p211 R d x2 x3 S) := by
  unfold zb_sign0_p211
  exact (Yd_if (Yd_za fun v1 => (Yd_if Yd_rec (Yd_G (Yd_let fun x3_2 => Yd_rec)))) Yd_rec)
theorem zd_find_p2 {d : Nat} {x1 : Int} {x2 : Int} {S : ZS} : Yd (fun R => zb_find_p2 R d x1 x2 S) := by
  unfold zb_find_p2
  exact (Yd_za fun v1 => (Yd_if (Yd_za fun v2 => (Yd_let fun x2_3 => Yd_rec)) (Yd_let fun x3_4 => Yd_rec)))
theorem zd_variableOf_p48 {d : Nat} {x1 : Int} {y0 : Int} {y1 : Int} {S : ZS} : Yd (fun R => zb_variableOf_p48 R d x1 y0 y1 S) := by
  unfold zb_variableOf_p48
  exact (Yd_zs fun S1 => (Yd_if (Yd_G (Yd_zp fun S2 => Yd_k)) (Yd_G (Yd_zp fun S3 => Yd_k))))
theorem zd_fix_p26 {d : Nat} {y0 : Int} {y1 : Int} {y2 : Int} {S : ZS} : Yd (fun R => zb_fix_p26 R d y0 y1 y2 S) := by
  unfold zb_fix_p26
  exact (Yd_zs fun S1 => (Yd_zs fun S2 => (Yd_zp fun S3 => (Yd_G (Yd_zp fun S4 => Yd_k)))))
theorem zd_withField_p26 {d : Nat} {x1 : Int} {x2 : Int} {x3 : Int} {x4 : Int} {S : ZS} : Yd (fun R => zb_withField_p26 R d x1 x2 x3 x4 S) := by
  unfold zb_withField_p26
  exact (Yd_za fun v1 => (Yd_if Yd_rec (Yd_za fun v2 => (Yd_za fun v3 => (Yd_if (Yd_za fun v4 => (Yd_let fun x4_5 => Yd_rec)) Yd_rec)))))
theorem zd_input_p148 {d : Nat} {x1 : Int} {S : ZS} : Yd (fun R => zb_input_p148 R d x1 S) := by
  unfold zb_input_p148
  exact (Yd_if Yd_k Yd_k)
theorem zd_read_p123 {d : Nat} {x1 : Int} {S : ZS} : Yd (fun R => zb_read_p123 R d x1 S) := by
  unfold zb_read_p123
  exact (Yd_if (Yd_V Yd_c fun S1 => Yd_k) (Yd_if (Yd_I Yd_c fun v3 S2 => (Yd_if (Yd_V Yd_c fun S4 => Yd_k) Yd_rec)) Yd_rec))
theorem zd_gaps_p60 {d : Nat} {x1 : Int} {x2 : Int} {S : ZS} : Yd (fun R => zb_gaps_p60 R d x1 x2 S) := by
  unfold zb_gaps_p60
  exact (Yd_if Yd_rec (Yd_I Yd_c fun v2 S1 => (Yd_let fun x3_3 => (Yd_if Yd_k (Yd_if (Yd_I Yd_c fun v5 S4 => (Yd_if (Yd_G (Yd_let fun x2_6 => (Yd_G (Yd_zp fun S7 => Yd_rec)))) Yd_rec)) Yd_rec)))))
theorem zd_isLetter_p12 {d : Nat} {x0 : Int} {S : ZS} : Yd (fun R => zb_isLetter_p12 R d x0 S) := by
  unfold zb_isLetter_p12
  exact (Yd_if Yd_k (Yd_if Yd_k Yd_k))
theorem zd_nameAt_text {d : Nat} {x2 : Int} {x3 : Int} {S : ZS} : Yd (fun R => zb_nameAt_text R d x2 x3 S) := by
  unfold zb_nameAt_text
  exact (Yd_let fun x4_1 => (Yd_let fun x5_2 => Yd_rec))
theorem zd_readVariable_p29 {d : Nat}  {S : ZS} : Yd (fun R => zb_readVariable_p29 R d  S) := by
  unfold zb_readVariable_p29
  exact (Yd_I Yd_c fun v2 S1 => (Yd_I Yd_c fun v4 S3 => (Yd_if Yd_k Yd_rec)))
theorem zd_readInt_p14 {d : Nat} {y0 : Int} {S : ZS} : Yd (fun R => zb_readInt_p14 R d y0 S) := by
  unfold zb_readInt_p14
  exact (Yd_let fun x1_1 => (Yd_if (Yd_let fun x2_2 => Yd_rec) (Yd_G (Yd_zp fun S3 => (Yd_let fun x2_4 => Yd_rec)))))
theorem zd_readString_p14 {d : Nat} {x1 : Int} {y0 : Int} {y1 : Int} {S : ZS} : Yd (fun R => zb_readString_p14 R d x1 y0 y1 S) := by
  unfold zb_readString_p14
  exact (Yd_G (Yd_zp fun S1 => (Yd_zp fun S2 => (Yd_V Yd_c fun S3 => Yd_rec))))
theorem zd_readEscape_p29 {d : Nat} {x1 : Int} {S : ZS} : Yd (fun R => zb_readEscape_p29 R d x1 S) := by
  unfold zb_readEscape_p29
  exact (Yd_if Yd_rec (Yd_if Yd_rec Yd_rec))
theorem zd_readEscape_p71 {d : Nat} {x2 : Int} {x3 : Int} {S : ZS} : Yd (fun R => zb_readEscape_p71 R d x2 x3 S) := by
  unfold zb_readEscape_p71
  exact (Yd_if (Yd_I Yd_c fun v2 S1 => (Yd_I Yd_c fun v4 S3 => (Yd_if Yd_rec (Yd_I Yd_c fun v6 S5 => (Yd_G Yd_rec))))) (Yd_V Yd_c fun S7 => Yd_k))
theorem zd_readSigns_p65 {d : Nat} {y0 : Int} {S : ZS} : Yd (fun R => zb_readSigns_p65 R d y0 S) := by
  unfold zb_readSigns_p65
  exact (Yd_let fun x1_1 => (Yd_if (Yd_G (Yd_zp fun S2 => Yd_rec)) (Yd_V Yd_c fun S3 => Yd_k)))
theorem zd_readSigns_p41 {d : Nat}  {S : ZS} : Yd (fun R => zb_readSigns_p41 R d  S) := by
  unfold zb_readSigns_p41
  exact (Yd_I Yd_c fun v2 S1 => (Yd_if (Yd_I Yd_c fun v4 S3 => (Yd_if Yd_rec Yd_rec)) Yd_rec))
theorem zd_readOther_p8 {d : Nat} {x2 : Int} {S : ZS} : Yd (fun R => zb_readOther_p8 R d x2 S) := by
  unfold zb_readOther_p8
  exact (Yd_if (Yd_I Yd_c fun v2 S1 => (Yd_if (Yd_G (Yd_zp fun S3 => (Yd_G (Yd_let fun x2_4 => Yd_rec)))) Yd_k)) (Yd_V Yd_c fun S5 => Yd_k))
theorem zd_readOther_p115 {d : Nat}  {S : ZS} : Yd (fun R => zb_readOther_p115 R d  S) := by
  unfold zb_readOther_p115
  exact (Yd_G (Yd_zp fun S1 => (Yd_V Yd_c fun S2 => Yd_k)))
theorem zd_decs_p10 {d : Nat} {x1 : Int} {x2 : Int} {x3 : Int} {x4 : Int} {S : ZS} : Yd (fun R => zb_decs_p10 R d x1 x2 x3 x4 S) := by
  unfold zb_decs_p10
  exact (Yd_if Yd_k (Yd_I Yd_c fun v2 S1 => (Yd_let fun x5_3 => (Yd_I Yd_c fun v5 S4 => (Yd_let fun x4_6 => (Yd_if (Yd_if Yd_rec (Yd_if Yd_k (Yd_if Yd_rec Yd_k))) Yd_rec))))))
theorem zd_dec_p95 {d : Nat} {x1 : Int} {y0 : Int} {S : ZS} : Yd (fun R => zb_dec_p95 R d x1 y0 S) := by
  unfold zb_dec_p95
  exact (Yd_I Yd_c fun v2 S1 => (Yd_I Yd_c fun v4 S3 => Yd_k))
theorem zd_local_p25 {d : Nat} {x1 : Int} {x2 : Int} {y0 : Int} {S : ZS} : Yd (fun R => zb_local_p25 R d x1 x2 y0 S) := by
  unfold zb_local_p25
  exact (Yd_let fun x3_1 => (Yd_V Yd_c fun S2 => (Yd_I Yd_c fun v4 S3 => (Yd_if Yd_rec (Yd_I Yd_c fun v6 S5 => Yd_rec)))))
theorem zd_binds_p6 {d : Nat} {x1 : Int} {x2 : Int} {x3 : Int} {S : ZS} : Yd (fun R => zb_binds_p6 R d x1 x2 x3 S) := by
  unfold zb_binds_p6
  exact (Yd_if Yd_k (Yd_I Yd_c fun v2 S1 => (Yd_let fun x4_3 => (Yd_V Yd_c fun S4 => (Yd_I Yd_c fun v6 S5 => (Yd_let fun x5_7 => (Yd_za fun v8 => (Yd_I Yd_c fun v10 S9 => (Yd_let fun x6_11 => (Yd_if (Yd_let fun x1_12 => Yd_rec) (Yd_zs fun S13 => Yd_rec)))))))))))
theorem zd_pattern_p19 {d : Nat} {x1 : Int} {y0 : Int} {S : ZS} : Yd (fun R => zb_pattern_p19 R d x1 y0 S) := by
  unfold zb_pattern_p19
  exact (Yd_let fun x2_1 => (Yd_let fun x3_2 => (Yd_let fun x4_3 => (Yd_let fun x5_4 => Yd_rec))))
theorem zd_infixed_p10 {d : Nat} {x1 : Int} {x2 : Int} {S : ZS} : Yd (fun R => zb_infixed_p10 R d x1 x2 S) := by
  unfold zb_infixed_p10
  exact (Yd_I Yd_c fun v2 S1 => (Yd_if Yd_rec (Yd_if Yd_rec (Yd_I Yd_c fun v4 S3 => (Yd_if Yd_rec Yd_rec)))))
theorem zd_push_p15 {d : Nat} {y0 : Int} {S : ZS} : Yd (fun R => zb_push_p15 R d y0 S) := by
  unfold zb_push_p15
  exact (Yd_let fun x2_1 => (Yd_zs fun S2 => (Yd_G (Yd_zp fun S3 => Yd_k))))
theorem zd_appliedPattern_p41 {d : Nat} {x1 : Int} {y0 : Int} {S : ZS} : Yd (fun R => zb_appliedPattern_p41 R d x1 y0 S) := by
  unfold zb_appliedPattern_p41
  exact (Yd_let fun x2_1 => (Yd_I Yd_c fun v3 S2 => (Yd_let fun x3_4 => (Yd_I Yd_c fun v6 S5 => (Yd_if (Yd_I Yd_c fun v8 S7 => (Yd_zp fun S9 => Yd_k)) (Yd_I Yd_c fun v11 S10 => (Yd_let fun x4_12 => (Yd_zp fun S13 => (Yd_I Yd_c fun v15 S14 => Yd_k)))))))))
theorem zd_fixOf_p5 {d : Nat} {x1 : Int} {x2 : Int} {S : ZS} : Yd (fun R => zb_fixOf_p5 R d x1 x2 S) := by
  unfold zb_fixOf_p5
  exact (Yd_if Yd_k (Yd_za fun v1 => (Yd_if (Yd_I Yd_c fun v3 S2 => (Yd_if Yd_k Yd_k)) (Yd_za fun v4 => (Yd_let fun x2_5 => Yd_rec)))))
theorem zd_atomPattern_p50 {d : Nat}  {S : ZS} : Yd (fun R => zb_atomPattern_p50 R d  S) := by
  unfold zb_atomPattern_p50
  exact (Yd_if (Yd_I Yd_c fun v2 S1 => Yd_k) (Yd_if (Yd_I Yd_c fun v4 S3 => Yd_k) (Yd_I Yd_c fun v6 S5 => Yd_k)))
theorem zd_atomPattern_p145 {d : Nat} {x1 : Int} {y0 : Int} {S : ZS} : Yd (fun R => zb_atomPattern_p145 R d x1 y0 S) := by
  unfold zb_atomPattern_p145
  exact (Yd_let fun x2_1 => (Yd_I Yd_c fun v3 S2 => (Yd_I Yd_c fun v5 S4 => Yd_k)))
theorem zd_patternRow_p27 {d : Nat} {x1 : Int} {x2 : Int} {x3 : Int} {x4 : Int} {x5 : Int} {S : ZS} : Yd (fun R => zb_patternRow_p27 R d x1 x2 x3 x4 x5 S) := by
  unfold zb_patternRow_p27
  exact (Yd_if Yd_rec (Yd_I Yd_c fun v2 S1 => (Yd_let fun x5_3 => (Yd_if (Yd_I Yd_c fun v5 S4 => (Yd_let fun x6_6 => (Yd_if (Yd_let fun x2_7 => Yd_rec) (Yd_zs fun S8 => Yd_rec)))) Yd_rec))))
theorem zd_patternField_p18 {d : Nat} {x1 : Int} {y0 : Int} {S : ZS} : Yd (fun R => zb_patternField_p18 R d x1 y0 S) := by
  unfold zb_patternField_p18
  exact (Yd_let fun x2_1 => (Yd_I Yd_c fun v3 S2 => (Yd_let fun x3_4 => (Yd_I Yd_c fun v6 S5 => (Yd_if (Yd_if Yd_k (Yd_let fun x4_7 => (Yd_I Yd_c fun v9 S8 => (Yd_if Yd_rec (Yd_I Yd_c fun v11 S10 => (Yd_let fun x4_12 => Yd_rec)))))) (Yd_I Yd_c fun v14 S13 => (Yd_I Yd_c fun v16 S15 => Yd_k)))))))
theorem zd_tupleType_p56 {d : Nat} {x1 : Int} {x2 : Int} {x3 : Int} {x4 : Int} {S : ZS} : Yd (fun R => zb_tupleType_p56 R d x1 x2 x3 x4 S) := by
  unfold zb_tupleType_p56
  exact (Yd_if (Yd_if (Yd_V Yd_c fun S1 => (Yd_I Yd_c fun v3 S2 => (Yd_let fun x5_4 => (Yd_G (Yd_let fun x4_5 => (Yd_za fun v6 => (Yd_I Yd_c fun v8 S7 => (Yd_I Yd_c fun v10 S9 => (Yd_zs fun S11 => (Yd_za fun v12 => (Yd_let fun x3_13 => Yd_rec))))))))))) Yd_rec) Yd_rec)
theorem zd_suffixed_p5 {d : Nat} {x1 : Int} {S : ZS} : Yd (fun R => zb_suffixed_p5 R d x1 S) := by
  unfold zb_suffixed_p5
  exact (Yd_if (Yd_if Yd_k (Yd_let fun x2_1 => (Yd_za fun v2 => (Yd_I Yd_c fun v4 S3 => (Yd_let fun x1_5 => (Yd_V Yd_c fun S6 => Yd_rec)))))) Yd_k)
theorem zd_atomicType_p74 {d : Nat} {x1 : Int} {S : ZS} : Yd (fun R => zb_atomicType_p74 R d x1 S) := by
  unfold zb_atomicType_p74
  exact (Yd_I Yd_c fun v2 S1 => (Yd_if (Yd_I Yd_c fun v4 S3 => (Yd_if Yd_k (Yd_V Yd_c fun S5 => (Yd_I Yd_c fun v7 S6 => (Yd_let fun x2_8 => (Yd_let fun x3_9 => (Yd_let fun x4_10 => Yd_rec))))))) (Yd_I Yd_c fun v12 S11 => Yd_k)))
theorem zd_typeRow_p20 {d : Nat} {x1 : Int} {x2 : Int} {x3 : Int} {x4 : Int} {S : ZS} : Yd (fun R => zb_typeRow_p20 R d x1 x2 x3 x4 S) := by
  unfold zb_typeRow_p20
  exact (Yd_if Yd_rec (Yd_let fun x5_1 => (Yd_I Yd_c fun v3 S2 => (Yd_let fun x6_4 => (Yd_V Yd_c fun S5 => (Yd_I Yd_c fun v7 S6 => (Yd_I Yd_c fun v9 S8 => (Yd_let fun x7_10 => (Yd_if (Yd_let fun x2_11 => Yd_rec) (Yd_zs fun S12 => Yd_rec))))))))))
theorem zd_typeRow_p94 {d : Nat} {x1 : Int} {x2 : Int} {S : ZS} : Yd (fun R => zb_typeRow_p94 R d x1 x2 S) := by
  unfold zb_typeRow_p94
  exact (Yd_V Yd_c fun S1 => (Yd_I Yd_c fun v3 S2 => Yd_k))
theorem zd_patternHeld_p15 {d : Nat} {x1 : Int} {x2 : Int} {y0 : Int} {S : ZS} : Yd (fun R => zb_patternHeld_p15 R d x1 x2 y0 S) := by
  unfold zb_patternHeld_p15
  exact (Yd_let fun x3_1 => (Yd_let fun x4_2 => (Yd_let fun x5_3 => (Yd_let fun x6_4 => (Yd_I Yd_c fun v6 S5 => (Yd_if (Yd_let fun x7_7 => Yd_rec) (Yd_let fun x7_8 => Yd_rec)))))))
theorem zd_applications_p5 {d : Nat} {x1 : Int} {S : ZS} : Yd (fun R => zb_applications_p5 R d x1 S) := by
  unfold zb_applications_p5
  exact (Yd_I Yd_c fun v2 S1 => (Yd_if Yd_k (Yd_I Yd_c fun v4 S3 => (Yd_let fun x2_5 => (Yd_let fun x3_6 => (Yd_za fun v7 => (Yd_I Yd_c fun v9 S8 => (Yd_let fun x1_10 => (Yd_za fun v11 => (Yd_if (Yd_zs fun S12 => Yd_rec) Yd_rec))))))))))
theorem zd_atom_p29 {d : Nat}  {S : ZS} : Yd (fun R => zb_atom_p29 R d  S) := by
  unfold zb_atom_p29
  exact (Yd_if (Yd_I Yd_c fun v2 S1 => (Yd_let fun x2_3 => Yd_k)) (Yd_if (Yd_I Yd_c fun v5 S4 => (Yd_let fun x2_6 => Yd_k)) (Yd_I Yd_c fun v8 S7 => (Yd_let fun x2_9 => Yd_k))))
theorem zd_atom_p201 {d : Nat} {x1 : Int} {y0 : Int} {S : ZS} : Yd (fun R => zb_atom_p201 R d x1 y0 S) := by
  unfold zb_atom_p201
  exact (Yd_let fun x3_1 => (Yd_I Yd_c fun v3 S2 => (Yd_I Yd_c fun v5 S4 => Yd_k)))
theorem zd_atom_p155 {d : Nat} {y0 : Int} {y1 : Int} {y2 : Int} {y3 : Int} {S : ZS} : Yd (fun R => zb_atom_p155 R d y0 y1 y2 y3 S) := by
  unfold zb_atom_p155
  exact (Yd_I Yd_c fun v2 S1 => (Yd_let fun x2_3 => (Yd_V Yd_c fun S4 => Yd_k)))
theorem zd_expressionRow_p24 {d : Nat} {x1 : Int} {x2 : Int} {x3 : Int} {x4 : Int} {S : ZS} : Yd (fun R => zb_expressionRow_p24 R d x1 x2 x3 x4 S) := by
  unfold zb_expressionRow_p24
  exact (Yd_if (Yd_V Yd_c fun S1 => (Yd_I Yd_c fun v3 S2 => Yd_k)) (Yd_let fun x5_4 => (Yd_I Yd_c fun v6 S5 => (Yd_let fun x6_7 => (Yd_V Yd_c fun S8 => (Yd_I Yd_c fun v10 S9 => (Yd_I Yd_c fun v12 S11 => (Yd_let fun x7_13 => (Yd_if (Yd_let fun x2_14 => Yd_rec) (Yd_zs fun S15 => Yd_rec))))))))))
theorem zd_expression_p254 {d : Nat} {x2 : Int} {S : ZS} : Yd (fun R => zb_expression_p254 R d x2 S) := by
  unfold zb_expression_p254
  exact (Yd_I Yd_c fun v2 S1 => (Yd_if Yd_k (Yd_let fun x3_3 => (Yd_V Yd_c fun S4 => (Yd_I Yd_c fun v6 S5 => (Yd_let fun x4_7 => (Yd_G (Yd_zp fun S8 => (Yd_za fun v9 => (Yd_I Yd_c fun v11 S10 => (Yd_let fun x2_12 => Yd_rec)))))))))))
theorem zd_match_p7 {d : Nat} {x1 : Int} {x2 : Int} {S : ZS} : Yd (fun R => zb_match_p7 R d x1 x2 S) := by
  unfold zb_match_p7
  exact (Yd_I Yd_c fun v2 S1 => (Yd_if Yd_k (Yd_I Yd_c fun v4 S3 => (Yd_zs fun S5 => (Yd_za fun v6 => (Yd_let fun x2_7 => Yd_rec))))))
theorem zd_orelse_p5 {d : Nat} {x1 : Int} {S : ZS} : Yd (fun R => zb_orelse_p5 R d x1 S) := by
  unfold zb_orelse_p5
  exact (Yd_I Yd_c fun v2 S1 => (Yd_if Yd_k (Yd_V Yd_c fun S3 => (Yd_I Yd_c fun v5 S4 => (Yd_if (Yd_I Yd_c fun v7 S6 => Yd_rec) (Yd_I Yd_c fun v9 S8 => Yd_rec))))))
theorem zd_andalso_p5 {d : Nat} {x1 : Int} {S : ZS} : Yd (fun R => zb_andalso_p5 R d x1 S) := by
  unfold zb_andalso_p5
  exact (Yd_I Yd_c fun v2 S1 => (Yd_if Yd_k (Yd_V Yd_c fun S3 => (Yd_I Yd_c fun v5 S4 => (Yd_if (Yd_I Yd_c fun v7 S6 => Yd_rec) (Yd_I Yd_c fun v9 S8 => Yd_rec))))))
theorem zd_typed_p6 {d : Nat} {x1 : Int} {S : ZS} : Yd (fun R => zb_typed_p6 R d x1 S) := by
  unfold zb_typed_p6
  exact (Yd_I Yd_c fun v2 S1 => (Yd_if Yd_k (Yd_za fun v3 => (Yd_I Yd_c fun v5 S4 => (Yd_I Yd_c fun v7 S6 => (Yd_let fun x1_8 => Yd_rec))))))
theorem zd_expressionHeld_p114 {d : Nat} {x1 : Int} {x2 : Int} {x3 : Int} {S : ZS} : Yd (fun R => zb_expressionHeld_p114 R d x1 x2 x3 S) := by
  unfold zb_expressionHeld_p114
  exact (Yd_V Yd_c fun S1 => (Yd_if (Yd_zs fun S2 => Yd_k) Yd_k))
theorem zd_row_p7 {d : Nat} {x1 : Int} {x2 : Int} {x3 : Int} {S : ZS} : Yd (fun R => zb_row_p7 R d x1 x2 x3 S) := by
  unfold zb_row_p7
  exact (Yd_I Yd_c fun v2 S1 => (Yd_if Yd_k (Yd_I Yd_c fun v4 S3 => (Yd_zs fun S5 => (Yd_za fun v6 => (Yd_let fun x3_7 => Yd_rec))))))
theorem zd_let_p25 {d : Nat} {x1 : Int} {x2 : Int} {y0 : Int} {S : ZS} : Yd (fun R => zb_let_p25 R d x1 x2 y0 S) := by
  unfold zb_let_p25
  exact (Yd_let fun x3_1 => (Yd_V Yd_c fun S2 => (Yd_I Yd_c fun v4 S3 => (Yd_let fun x4_5 => (Yd_V Yd_c fun S6 => (Yd_zp fun S7 => (Yd_I Yd_c fun v9 S8 => Yd_k)))))))
theorem zd_isInfixHere_p17 {d : Nat}  {S : ZS} : Yd (fun R => zb_isInfixHere_p17 R d  S) := by
  unfold zb_isInfixHere_p17
  exact (Yd_I Yd_c fun v2 S1 => (Yd_if Yd_k Yd_k))
theorem zd_reduce_p88 {d : Nat} {x2 : Int} {x3 : Int} {x4 : Int} {x5 : Int} {y0 : Int} {y2 : Int} {S : ZS} : Yd (fun R => zb_reduce_p88 R d x2 x3 x4 x5 y0 y2 S) := by
  unfold zb_reduce_p88
  exact (Yd_za fun v1 => (Yd_I Yd_c fun v3 S2 => (Yd_zs fun S4 => Yd_k)))
theorem zd_functions_p6 {d : Nat} {x1 : Int} {x2 : Int} {x3 : Int} {S : ZS} : Yd (fun R => zb_functions_p6 R d x1 x2 x3 S) := by
  unfold zb_functions_p6
  exact (Yd_if Yd_k (Yd_I Yd_c fun v2 S1 => (Yd_let fun x4_3 => (Yd_za fun v4 => (Yd_za fun v5 => (Yd_I Yd_c fun v7 S6 => (Yd_let fun x5_8 => (Yd_if (Yd_let fun x1_9 => Yd_rec) (Yd_zs fun S10 => Yd_rec)))))))))
theorem zd_clauses_p7 {d : Nat} {x1 : Int} {x2 : Int} {S : ZS} : Yd (fun R => zb_clauses_p7 R d x1 x2 S) := by
  unfold zb_clauses_p7
  exact (Yd_I Yd_c fun v2 S1 => (Yd_if Yd_k (Yd_I Yd_c fun v4 S3 => (Yd_zs fun S5 => (Yd_za fun v6 => (Yd_let fun x2_7 => Yd_rec))))))
theorem zd_clause_p29 {d : Nat} {x1 : Int} {y0 : Int} {S : ZS} : Yd (fun R => zb_clause_p29 R d x1 y0 S) := by
  unfold zb_clause_p29
  exact (Yd_let fun x2_1 => (Yd_I Yd_c fun v3 S2 => (Yd_if (Yd_if (Yd_I Yd_c fun v5 S4 => (Yd_if (Yd_if Yd_rec Yd_rec) Yd_rec)) Yd_rec) Yd_rec)))
theorem zd_variables_p50 {d : Nat} {x1 : Int} {x2 : Int} {x3 : Int} {S : ZS} : Yd (fun R => zb_variables_p50 R d x1 x2 x3 S) := by
  unfold zb_variables_p50
  exact (Yd_I Yd_c fun v2 S1 => (Yd_if (Yd_V Yd_c fun S3 => Yd_k) (Yd_if (Yd_if Yd_k (Yd_I Yd_c fun v5 S4 => (Yd_zs fun S6 => (Yd_za fun v7 => (Yd_let fun x2_8 => (Yd_G (Yd_let fun x3_9 => Yd_rec))))))) Yd_k)))
theorem zd_datas_p6 {d : Nat} {x1 : Int} {x2 : Int} {x3 : Int} {S : ZS} : Yd (fun R => zb_datas_p6 R d x1 x2 x3 S) := by
  unfold zb_datas_p6
  exact (Yd_if Yd_k (Yd_I Yd_c fun v2 S1 => (Yd_let fun x4_3 => (Yd_let fun x5_4 => (Yd_I Yd_c fun v6 S5 => (Yd_let fun x6_7 => (Yd_V Yd_c fun S8 => (Yd_I Yd_c fun v10 S9 => (Yd_I Yd_c fun v12 S11 => (Yd_let fun x7_13 => (Yd_if (Yd_let fun x1_14 => Yd_rec) (Yd_zs fun S15 => Yd_rec))))))))))))
theorem zd_constructors_p6 {d : Nat} {x1 : Int} {x2 : Int} {x3 : Int} {S : ZS} : Yd (fun R => zb_constructors_p6 R d x1 x2 x3 S) := by
  unfold zb_constructors_p6
  exact (Yd_if Yd_k (Yd_I Yd_c fun v2 S1 => (Yd_let fun x4_3 => (Yd_let fun x5_4 => (Yd_if (Yd_I Yd_c fun v6 S5 => Yd_rec) (Yd_I Yd_c fun v8 S7 => Yd_rec))))))
theorem zd_exception_p27 {d : Nat} {x1 : Int} {x3 : Int} {y0 : Int} {S : ZS} : Yd (fun R => zb_exception_p27 R d x1 x3 y0 S) := by
  unfold zb_exception_p27
  exact (Yd_let fun x4_1 => (Yd_I Yd_c fun v3 S2 => (Yd_if (Yd_I Yd_c fun v5 S4 => (Yd_if (Yd_I Yd_c fun v7 S6 => Yd_k) (Yd_I Yd_c fun v9 S8 => (Yd_I Yd_c fun v11 S10 => Yd_k)))) (Yd_I Yd_c fun v13 S12 => (Yd_let fun x5_14 => (Yd_let fun x6_15 => (Yd_if (Yd_I Yd_c fun v17 S16 => Yd_rec) (Yd_I Yd_c fun v19 S18 => Yd_rec))))))))
theorem zd_infixes_p11 {d : Nat} {x1 : Int} {x2 : Int} {y0 : Int} {S : ZS} : Yd (fun R => zb_infixes_p11 R d x1 x2 y0 S) := by
  unfold zb_infixes_p11
  exact (Yd_let fun x3_1 => (Yd_if Yd_rec (Yd_if (Yd_if Yd_k (Yd_if (Yd_if (Yd_let fun x3_2 => (Yd_V Yd_c fun S3 => Yd_rec)) Yd_k) Yd_k)) Yd_rec)))
theorem zd_judgedVal_p42 {d : Nat} {x2 : Int} {x3 : Int} {x4 : Int} {x5 : Int} {x6 : Int} {S : ZS} : Yd (fun R => zb_judgedVal_p42 R d x2 x3 x4 x5 x6 S) := by
  unfold zb_judgedVal_p42
  exact (Yd_if (Yd_zp fun S1 => (Yd_V Yd_c fun S2 => (Yd_zp fun S3 => (Yd_V Yd_c fun S4 => Yd_k)))) (Yd_let fun x7_5 => (Yd_zp fun S6 => (Yd_za fun v7 => (Yd_I Yd_c fun v9 S8 => (Yd_let fun x8_10 => (Yd_za fun v11 => (Yd_I Yd_c fun v13 S12 => (Yd_let fun x9_14 => (Yd_za fun v15 => (Yd_za fun v16 => (Yd_V Yd_c fun S17 => (Yd_let fun x10_18 => Yd_rec)))))))))))))
theorem zd_enterVariables_p23 {d : Nat} {x2 : Int} {x3 : Int} {S : ZS} : Yd (fun R => zb_enterVariables_p23 R d x2 x3 S) := by
  unfold zb_enterVariables_p23
  exact (Yd_if (Yd_let fun x4_1 => (Yd_let fun x5_2 => Yd_rec)) Yd_k)
theorem zd_lookAll_p2 {d : Nat} {x2 : Int} {x3 : Int} {S : ZS} : Yd (fun R => zb_lookAll_p2 R d x2 x3 S) := by
  unfold zb_lookAll_p2
  exact (Yd_if Yd_k (Yd_V Yd_c fun S1 => (Yd_za fun v2 => (Yd_let fun x3_3 => Yd_rec))))
theorem zd_look_p2 {d : Nat} {x2 : Int} {x3 : Int} {S : ZS} : Yd (fun R => zb_look_p2 R d x2 x3 S) := by
  unfold zb_look_p2
  exact (Yd_za fun v1 => (Yd_if (Yd_za fun v2 => (Yd_if Yd_rec (Yd_za fun v3 => (Yd_za fun v4 => (Yd_if (Yd_za fun v5 => (Yd_let fun x3_6 => Yd_rec)) Yd_rec))))) Yd_rec))
theorem zd_found_p2 {d : Nat} {x1 : Int} {x2 : Int} {x3 : Int} {S : ZS} : Yd (fun R => zb_found_p2 R d x1 x2 x3 S) := by
  unfold zb_found_p2
  exact (Yd_if (Yd_za fun v1 => (Yd_za fun v2 => (Yd_if Yd_rec (Yd_G (Yd_let fun x3_3 => Yd_rec))))) Yd_rec)
theorem zd_patternName_p43 {d : Nat} {x1 : Int} {x2 : Int} {x3 : Int} {y0 : Int} {S : ZS} : Yd (fun R => zb_patternName_p43 R d x1 x2 x3 y0 S) := by
  unfold zb_patternName_p43
  exact (Yd_let fun x4_1 => (Yd_if Yd_rec (Yd_za fun v2 => (Yd_if Yd_rec (Yd_I Yd_c fun v4 S3 => (Yd_if Yd_rec Yd_rec))))))
theorem zd_valueOf_p5 {d : Nat} {x1 : Int} {x2 : Int} {S : ZS} : Yd (fun R => zb_valueOf_p5 R d x1 x2 S) := by
  unfold zb_valueOf_p5
  exact (Yd_if Yd_k (Yd_za fun v1 => (Yd_if Yd_k (Yd_za fun v2 => (Yd_let fun x2_3 => Yd_rec)))))
theorem zd_hasArgument_p35 {d : Nat} {y0 : Int} {S : ZS} : Yd (fun R => zb_hasArgument_p35 R d y0 S) := by
  unfold zb_hasArgument_p35
  exact (Yd_if Yd_k Yd_k)
theorem zd_meet_p69 {d : Nat} {x1 : Int} {x2 : Int} {S : ZS} : Yd (fun R => zb_meet_p69 R d x1 x2 S) := by
  unfold zb_meet_p69
  exact (Yd_za fun v1 => (Yd_zs fun S2 => (Yd_za fun v3 => (Yd_za fun v4 => (Yd_if (Yd_V Yd_c fun S5 => Yd_k) (Yd_V Yd_c fun S6 => Yd_k))))))
theorem zd_use_p18 {d : Nat} {x1 : Int} {x3 : Int} {S : ZS} : Yd (fun R => zb_use_p18 R d x1 x3 S) := by
  unfold zb_use_p18
  exact (Yd_I Yd_c fun v2 S1 => (Yd_if Yd_k (Yd_I Yd_c fun v4 S3 => (Yd_if (Yd_zs fun S5 => (Yd_za fun v6 => (Yd_zs fun S7 => (Yd_zs fun S8 => (Yd_G (Yd_zp fun S9 => (Yd_za fun v10 => (Yd_G (Yd_zs fun S11 => (Yd_za fun v12 => (Yd_let fun x3_13 => Yd_rec))))))))))) (Yd_za fun v14 => (Yd_let fun x3_15 => Yd_rec))))))
theorem zd_isUsed_p7 {d : Nat} {x2 : Int} {x3 : Int} {S : ZS} : Yd (fun R => zb_isUsed_p7 R d x2 x3 S) := by
  unfold zb_isUsed_p7
  exact (Yd_if Yd_k (Yd_za fun v1 => (Yd_if Yd_k (Yd_za fun v2 => (Yd_let fun x3_3 => Yd_rec)))))
theorem zd_readSign_p31 {d : Nat} {x1 : Int} {x2 : Int} {x3 : Int} {S : ZS} : Yd (fun R => zb_readSign_p31 R d x1 x2 x3 S) := by
  unfold zb_readSign_p31
  exact (Yd_if (Yd_zs fun S1 => (Yd_G (Yd_zp fun S2 => Yd_rec))) (Yd_za fun v3 => (Yd_if (Yd_if Yd_rec (Yd_if Yd_rec Yd_rec)) (Yd_za fun v4 => Yd_k))))
theorem zd_readSign_p134 {d : Nat} {x1 : Int} {x2 : Int} {y0 : Int} {S : ZS} : Yd (fun R => zb_readSign_p134 R d x1 x2 y0 S) := by
  unfold zb_readSign_p134
  exact (Yd_let fun x3_1 => (Yd_if (Yd_za fun v2 => Yd_rec) Yd_rec))
theorem zd_instanceOf_p28 {d : Nat} {x2 : Int} {x3 : Int} {S : ZS} : Yd (fun R => zb_instanceOf_p28 R d x2 x3 S) := by
  unfold zb_instanceOf_p28
  exact (Yd_if (Yd_za fun v1 => Yd_k) (Yd_za fun v2 => (Yd_let fun x4_3 => (Yd_za fun v4 => (Yd_let fun x5_5 => (Yd_if (Yd_G (Yd_let fun x3_6 => (Yd_I Yd_c fun v8 S7 => (Yd_zs fun S9 => Yd_rec)))) (Yd_za fun v10 => (Yd_zs fun S11 => (Yd_za fun v12 => (Yd_I Yd_c fun v14 S13 => (Yd_let fun x6_15 => (Yd_za fun v16 => (Yd_if Yd_rec (Yd_I Yd_c fun v18 S17 => (Yd_let fun x3_19 => Yd_rec)))))))))))))))
theorem zd_enter_p37 {d : Nat} {x1 : Int} {x2 : Int} {S : ZS} : Yd (fun R => zb_enter_p37 R d x1 x2 S) := by
  unfold zb_enter_p37
  exact (Yd_zs fun S1 => (Yd_za fun v2 => (Yd_zs fun S3 => (Yd_G Yd_k))))
theorem zd_copied_p9 {d : Nat} {x1 : Int} {x2 : Int} {x3 : Int} {S : ZS} : Yd (fun R => zb_copied_p9 R d x1 x2 x3 S) := by
  unfold zb_copied_p9
  exact (Yd_if Yd_rec (Yd_if Yd_rec (Yd_za fun v1 => (Yd_I Yd_c fun v3 S2 => (Yd_za fun v4 => (Yd_za fun v5 => (Yd_I Yd_c fun v7 S6 => (Yd_if Yd_rec Yd_rec))))))))
theorem zd_pend_p21 {d : Nat} {x1 : Int} {x2 : Int} {x3 : Int} {S : ZS} : Yd (fun R => zb_pend_p21 R d x1 x2 x3 S) := by
  unfold zb_pend_p21
  exact (Yd_if (Yd_za fun v1 => (Yd_if Yd_k (Yd_G (Yd_let fun x3_2 => Yd_rec)))) (Yd_V Yd_c fun S3 => (Yd_zs fun S4 => (Yd_I Yd_c fun v6 S5 => (Yd_zs fun S7 => (Yd_I Yd_c fun v9 S8 => (Yd_zs fun S10 => (Yd_zs fun S11 => (Yd_G (Yd_zp fun S12 => (Yd_G Yd_k)))))))))))
theorem zd_patternCon_p48 {d : Nat} {x1 : Int} {x2 : Int} {S : ZS} : Yd (fun R => zb_patternCon_p48 R d x1 x2 S) := by
  unfold zb_patternCon_p48
  exact (Yd_I Yd_c fun v2 S1 => (Yd_if Yd_rec (Yd_za fun v3 => (Yd_let fun x3_4 => (Yd_V Yd_c fun S5 => (Yd_za fun v6 => (Yd_I Yd_c fun v8 S7 => (Yd_let fun x4_9 => (Yd_I Yd_c fun v11 S10 => (Yd_za fun v12 => (Yd_za fun v13 => (Yd_let fun x5_14 => (Yd_I Yd_c fun v16 S15 => (Yd_za fun v17 => (Yd_za fun v18 => (Yd_za fun v19 => (Yd_let fun x6_20 => (Yd_za fun v21 => (Yd_I Yd_c fun v23 S22 => (Yd_let fun x7_24 => (Yd_za fun v25 => (Yd_if (Yd_za fun v26 => (Yd_I Yd_c fun v28 S27 => (Yd_I Yd_c fun v30 S29 => (Yd_V Yd_c fun S31 => Yd_k)))) (Yd_za fun v32 => (Yd_za fun v33 => (Yd_V Yd_c fun S34 => Yd_k)))))))))))))))))))))))))
theorem zd_patternCon_p56 {d : Nat} {x1 : Int} {S : ZS} : Yd (fun R => zb_patternCon_p56 R d x1 S) := by
  unfold zb_patternCon_p56
  exact (Yd_za fun v1 => Yd_k)
theorem zd_joined_p18 {d : Nat} {x1 : Int} {x3 : Int} {S : ZS} : Yd (fun R => zb_joined_p18 R d x1 x3 S) := by
  unfold zb_joined_p18
  exact (Yd_if Yd_rec (Yd_if Yd_rec (Yd_G (Yd_zp fun S1 => (Yd_za fun v2 => (Yd_I Yd_c fun v4 S3 => (Yd_za fun v5 => (Yd_I Yd_c fun v7 S6 => (Yd_I Yd_c fun v9 S8 => (Yd_let fun x3_10 => Yd_rec))))))))))
theorem zd_merge_p51 {d : Nat} {x1 : Int} {x2 : Int} {S : ZS} : Yd (fun R => zb_merge_p51 R d x1 x2 S) := by
  unfold zb_merge_p51
  exact (Yd_za fun v1 => (Yd_if Yd_rec (Yd_za fun v2 => (Yd_if Yd_rec (Yd_za fun v3 => (Yd_za fun v4 => (Yd_if (Yd_za fun v5 => (Yd_if Yd_k (Yd_za fun v6 => (Yd_if (Yd_I Yd_c fun v8 S7 => Yd_k) (Yd_I Yd_c fun v10 S9 => Yd_k))))) Yd_k)))))))
theorem zd_mergeRows_p17 {d : Nat} {x1 : Int} {x2 : Int} {y0 : Int} {S : ZS} : Yd (fun R => zb_mergeRows_p17 R d x1 x2 y0 S) := by
  unfold zb_mergeRows_p17
  exact (Yd_let fun x3_1 => (Yd_za fun v2 => (Yd_if (Yd_let fun x4_3 => (Yd_za fun v4 => (Yd_let fun x5_5 => Yd_rec))) (Yd_let fun x4_6 => (Yd_za fun v7 => (Yd_let fun x5_8 => Yd_rec))))))
theorem zd_partOf_p2 {d : Nat} {x2 : Int} {x3 : Int} {S : ZS} : Yd (fun R => zb_partOf_p2 R d x2 x3 S) := by
  unfold zb_partOf_p2
  exact (Yd_if Yd_k (Yd_za fun v1 => (Yd_if Yd_k (Yd_za fun v2 => (Yd_let fun x3_3 => Yd_rec)))))
theorem zd_allFields_p18 {d : Nat} {x1 : Int} {x2 : Int} {y0 : Int} {S : ZS} : Yd (fun R => zb_allFields_p18 R d x1 x2 y0 S) := by
  unfold zb_allFields_p18
  exact (Yd_let fun x3_1 => (Yd_if Yd_rec Yd_rec))
theorem zd_fieldsFrom_p4 {d : Nat} {x2 : Int} {x3 : Int} {S : ZS} : Yd (fun R => zb_fieldsFrom_p4 R d x2 x3 S) := by
  unfold zb_fieldsFrom_p4
  exact (Yd_if Yd_k (Yd_G (Yd_let fun x2_1 => (Yd_za fun v2 => (Yd_let fun x3_3 => Yd_rec)))))
theorem zd_mergeMade_p38 {d : Nat} {x3 : Int} {x4 : Int} {S : ZS} : Yd (fun R => zb_mergeMade_p38 R d x3 x4 S) := by
  unfold zb_mergeMade_p38
  exact (Yd_if Yd_k (Yd_za fun v1 => (Yd_za fun v2 => (Yd_V Yd_c fun S3 => (Yd_za fun v4 => (Yd_let fun x3_5 => (Yd_za fun v6 => (Yd_let fun x4_7 => Yd_rec))))))))
theorem zd_isEndless_p54 {d : Nat} {x1 : Int} {y0 : Int} {y1 : Int} {S : ZS} : Yd (fun R => zb_isEndless_p54 R d x1 y0 y1 S) := by
  unfold zb_isEndless_p54
  exact (Yd_zs fun S1 => (Yd_zs fun S2 => (Yd_let fun x2_3 => Yd_rec)))
theorem zd_admit_p121 {d : Nat} {x1 : Int} {S : ZS} : Yd (fun R => zb_admit_p121 R d x1 S) := by
  unfold zb_admit_p121
  exact (Yd_za fun v1 => (Yd_if (Yd_za fun v2 => (Yd_if Yd_rec (Yd_za fun v3 => (Yd_let fun x2_4 => Yd_rec)))) (Yd_za fun v5 => (Yd_let fun x2_6 => Yd_rec))))
theorem zd_patternTuple_p12 {d : Nat} {x2 : Int} {x3 : Int} {x4 : Int} {S : ZS} : Yd (fun R => zb_patternTuple_p12 R d x2 x3 x4 S) := by
  unfold zb_patternTuple_p12
  exact (Yd_if (Yd_I Yd_c fun v2 S1 => Yd_k) (Yd_I Yd_c fun v4 S3 => (Yd_I Yd_c fun v6 S5 => (Yd_I Yd_c fun v8 S7 => (Yd_let fun x2_9 => (Yd_G (Yd_let fun x3_10 => (Yd_za fun v11 => (Yd_let fun x4_12 => Yd_rec)))))))))
theorem zd_patternParts_p9 {d : Nat} {x1 : Int} {x2 : Int} {x3 : Int} {S : ZS} : Yd (fun R => zb_patternParts_p9 R d x1 x2 x3 S) := by
  unfold zb_patternParts_p9
  exact (Yd_if (Yd_za fun v1 => (Yd_if Yd_rec Yd_rec)) (Yd_za fun v2 => (Yd_I Yd_c fun v4 S3 => (Yd_if (Yd_za fun v5 => (Yd_I Yd_c fun v7 S6 => (Yd_let fun x2_8 => (Yd_za fun v9 => (Yd_I Yd_c fun v11 S10 => (Yd_let fun x4_12 => (Yd_za fun v13 => (Yd_I Yd_c fun v15 S14 => (Yd_zs fun S16 => (Yd_za fun v17 => (Yd_let fun x3_18 => Yd_rec))))))))))) (Yd_za fun v19 => Yd_k)))))
theorem zd_patternList_p9 {d : Nat} {x2 : Int} {x3 : Int} {S : ZS} : Yd (fun R => zb_patternList_p9 R d x2 x3 S) := by
  unfold zb_patternList_p9
  exact (Yd_if (Yd_G (Yd_zp fun S1 => (Yd_if (Yd_I Yd_c fun v3 S2 => (Yd_I Yd_c fun v5 S4 => Yd_k)) (Yd_I Yd_c fun v7 S6 => Yd_k)))) (Yd_I Yd_c fun v9 S8 => (Yd_let fun x4_10 => (Yd_G (Yd_zp fun S11 => (Yd_if (Yd_let fun x2_12 => (Yd_za fun v13 => (Yd_let fun x3_14 => Yd_rec))) (Yd_za fun v15 => (Yd_V Yd_c fun S16 => (Yd_za fun v17 => (Yd_let fun x3_18 => Yd_rec))))))))))
theorem zd_toldVariable_p7 {d : Nat} {x1 : Int} {x2 : Int} {S : ZS} : Yd (fun R => zb_toldVariable_p7 R d x1 x2 S) := by
  unfold zb_toldVariable_p7
  exact (Yd_if Yd_rec Yd_rec)
theorem zd_toldName_p7 {d : Nat} {x2 : Int} {x3 : Int} {S : ZS} : Yd (fun R => zb_toldName_p7 R d x2 x3 S) := by
  unfold zb_toldName_p7
  exact (Yd_za fun v1 => (Yd_if (Yd_I Yd_c fun v3 S2 => (Yd_let fun x4_4 => Yd_rec)) (Yd_za fun v5 => (Yd_za fun v6 => (Yd_if (Yd_za fun v7 => (Yd_za fun v8 => (Yd_if (Yd_zs fun S9 => (Yd_G (Yd_zp fun S10 => (Yd_za fun v11 => (Yd_let fun x3_12 => Yd_rec))))) (Yd_I Yd_c fun v14 S13 => (Yd_let fun x4_15 => Yd_rec))))) (Yd_I Yd_c fun v17 S16 => (Yd_let fun x4_18 => Yd_rec)))))))
theorem zd_toldOne_p16 {d : Nat} {x1 : Int} {x2 : Int} {x3 : Int} {x4 : Int} {x5 : Int} {x6 : Int} {S : ZS} : Yd (fun R => zb_toldOne_p16 R d x1 x2 x3 x4 x5 x6 S) := by
  unfold zb_toldOne_p16
  exact (Yd_if (Yd_za fun v1 => (Yd_I Yd_c fun v3 S2 => (Yd_let fun x6_4 => (Yd_if (Yd_za fun v5 => Yd_k) (Yd_za fun v6 => (Yd_if (Yd_za fun v7 => (Yd_if (Yd_I Yd_c fun v9 S8 => Yd_k) (Yd_za fun v10 => (Yd_I Yd_c fun v12 S11 => Yd_k)))) (Yd_za fun v13 => Yd_k))))))) (Yd_if (Yd_I Yd_c fun v15 S14 => Yd_rec) Yd_rec))
theorem zd_typeNamed_p5 {d : Nat} {x1 : Int} {x2 : Int} {S : ZS} : Yd (fun R => zb_typeNamed_p5 R d x1 x2 S) := by
  unfold zb_typeNamed_p5
  exact (Yd_if Yd_k (Yd_za fun v1 => (Yd_if Yd_k (Yd_za fun v2 => (Yd_let fun x2_3 => Yd_rec)))))
theorem zd_standsFor_p7 {d : Nat} {x1 : Int} {x3 : Int} {S : ZS} : Yd (fun R => zb_standsFor_p7 R d x1 x3 S) := by
  unfold zb_standsFor_p7
  exact (Yd_if (Yd_za fun v1 => (Yd_G (Yd_I Yd_c fun v3 S2 => Yd_k))) (Yd_za fun v4 => (Yd_zs fun S5 => (Yd_G (Yd_zp fun S6 => (Yd_za fun v7 => (Yd_let fun x3_8 => Yd_rec)))))))
theorem zd_toldRow_p9 {d : Nat} {x2 : Int} {x3 : Int} {S : ZS} : Yd (fun R => zb_toldRow_p9 R d x2 x3 S) := by
  unfold zb_toldRow_p9
  exact (Yd_if (Yd_I Yd_c fun v2 S1 => Yd_k) (Yd_za fun v3 => (Yd_I Yd_c fun v5 S4 => (Yd_if (Yd_za fun v6 => (Yd_za fun v7 => (Yd_I Yd_c fun v9 S8 => (Yd_I Yd_c fun v11 S10 => (Yd_let fun x2_12 => (Yd_za fun v13 => (Yd_let fun x3_14 => Yd_rec))))))) (Yd_za fun v15 => Yd_k)))))
theorem zd_patternAs_p49 {d : Nat} {x1 : Int} {S : ZS} : Yd (fun R => zb_patternAs_p49 R d x1 S) := by
  unfold zb_patternAs_p49
  exact (Yd_za fun v1 => (Yd_za fun v2 => (Yd_I Yd_c fun v4 S3 => (Yd_let fun x3_5 => (Yd_za fun v6 => (Yd_let fun x4_7 => (Yd_za fun v8 => (Yd_let fun x5_9 => (Yd_za fun v10 => (Yd_if Yd_rec (Yd_za fun v11 => (Yd_I Yd_c fun v13 S12 => (Yd_za fun v14 => (Yd_V Yd_c fun S15 => Yd_rec))))))))))))))
theorem zd_patternAs_p36 {d : Nat} {x1 : Int} {S : ZS} : Yd (fun R => zb_patternAs_p36 R d x1 S) := by
  unfold zb_patternAs_p36
  exact (Yd_za fun v1 => Yd_k)
theorem zd_judgedName_p90 {d : Nat} {x4 : Int} {y0 : Int} {y1 : Int} {S : ZS} : Yd (fun R => zb_judgedName_p90 R d x4 y0 y1 S) := by
  unfold zb_judgedName_p90
  exact (Yd_V Yd_c fun S1 => (Yd_za fun v2 => (Yd_I Yd_c fun v4 S3 => Yd_k)))
theorem zd_judgedRow_p9 {d : Nat} {x2 : Int} {x3 : Int} {S : ZS} : Yd (fun R => zb_judgedRow_p9 R d x2 x3 S) := by
  unfold zb_judgedRow_p9
  exact (Yd_if (Yd_I Yd_c fun v2 S1 => Yd_k) (Yd_za fun v3 => (Yd_I Yd_c fun v5 S4 => (Yd_if (Yd_za fun v6 => (Yd_I Yd_c fun v8 S7 => (Yd_let fun x2_9 => (Yd_za fun v10 => (Yd_I Yd_c fun v12 S11 => (Yd_let fun x4_13 => (Yd_za fun v14 => (Yd_I Yd_c fun v16 S15 => (Yd_zs fun S17 => (Yd_za fun v18 => (Yd_let fun x3_19 => Yd_rec))))))))))) (Yd_za fun v20 => Yd_k)))))
theorem zd_judgedTuple_p12 {d : Nat} {x2 : Int} {x3 : Int} {x4 : Int} {S : ZS} : Yd (fun R => zb_judgedTuple_p12 R d x2 x3 x4 S) := by
  unfold zb_judgedTuple_p12
  exact (Yd_if (Yd_I Yd_c fun v2 S1 => Yd_k) (Yd_I Yd_c fun v4 S3 => (Yd_I Yd_c fun v6 S5 => (Yd_I Yd_c fun v8 S7 => (Yd_let fun x2_9 => (Yd_G (Yd_let fun x3_10 => (Yd_za fun v11 => (Yd_let fun x4_12 => Yd_rec)))))))))
theorem zd_judgedApplication_p4 {d : Nat} {x1 : Int} {x2 : Int} {x3 : Int} {S : ZS} : Yd (fun R => zb_judgedApplication_p4 R d x1 x2 x3 S) := by
  unfold zb_judgedApplication_p4
  exact (Yd_za fun v1 => (Yd_if (Yd_za fun v2 => (Yd_let fun x3_3 => (Yd_G (Yd_let fun x2_4 => Yd_rec)))) (Yd_I Yd_c fun v6 S5 => (Yd_let fun x4_7 => (Yd_G (Yd_let fun x5_8 => Yd_rec))))))
theorem zd_rules_p12 {d : Nat} {x4 : Int} {x5 : Int} {x6 : Int} {x7 : Int} {x9 : Int} {S : ZS} : Yd (fun R => zb_rules_p12 R d x4 x5 x6 x7 x9 S) := by
  unfold zb_rules_p12
  exact (Yd_if (Yd_zp fun S1 => Yd_k) (Yd_let fun x10_2 => (Yd_let fun x11_3 => (Yd_let fun x12_4 => (Yd_let fun x13_5 => (Yd_let fun x14_6 => (Yd_zpZ fun S7 => (Yd_zpZ fun S8 => (Yd_zp fun S9 => (Yd_za fun v10 => (Yd_I Yd_c fun v12 S11 => (Yd_let fun x15_13 => (Yd_if (Yd_let fun x5_14 => Yd_rec) (Yd_za fun v15 => (Yd_za fun v16 => (Yd_V Yd_c fun S17 => Yd_rec))))))))))))))))
theorem zd_bindPending_p2 {d : Nat} {x1 : Int} {x2 : Int} {S : ZS} : Yd (fun R => zb_bindPending_p2 R d x1 x2 S) := by
  unfold zb_bindPending_p2
  exact (Yd_if (Yd_za fun v1 => (Yd_za fun v2 => (Yd_za fun v3 => (Yd_za fun v4 => (Yd_I Yd_c fun v6 S5 => (Yd_let fun x3_7 => (Yd_G (Yd_let fun x2_8 => Yd_rec)))))))) (Yd_zp fun S9 => Yd_k))
theorem zd_countOf_p184 {d : Nat} {x3 : Int} {x4 : Int} {S : ZS} : Yd (fun R => zb_countOf_p184 R d x3 x4 S) := by
  unfold zb_countOf_p184
  exact (Yd_if Yd_k (Yd_za fun v1 => (Yd_I Yd_c fun v3 S2 => (Yd_G (Yd_let fun x3_4 => (Yd_za fun v5 => (Yd_let fun x4_6 => Yd_rec)))))))
theorem zd_countOf_p229 {d : Nat} {x4 : Int} {x5 : Int} {S : ZS} : Yd (fun R => zb_countOf_p229 R d x4 x5 S) := by
  unfold zb_countOf_p229
  exact (Yd_if Yd_k (Yd_I Yd_c fun v2 S1 => (Yd_G (Yd_let fun x4_3 => (Yd_za fun v4 => (Yd_let fun x5_5 => Yd_rec))))))
theorem zd_countOf_p138 {d : Nat} {x2 : Int} {x3 : Int} {S : ZS} : Yd (fun R => zb_countOf_p138 R d x2 x3 S) := by
  unfold zb_countOf_p138
  exact (Yd_if Yd_k (Yd_I Yd_c fun v2 S1 => (Yd_G (Yd_let fun x2_3 => (Yd_za fun v4 => (Yd_let fun x3_5 => Yd_rec))))))
theorem zd_times_p13 {d : Nat} {x4 : Int} {y0 : Int} {S : ZS} : Yd (fun R => zb_times_p13 R d x4 y0 S) := by
  unfold zb_times_p13
  exact (Yd_let fun x5_1 => (Yd_if Yd_k Yd_k))
theorem zd_endCode_p19 {d : Nat} {x1 : Int} {x2 : Int} {x3 : Int} {S : ZS} : Yd (fun R => zb_endCode_p19 R d x1 x2 x3 S) := by
  unfold zb_endCode_p19
  exact (Yd_if (Yd_zs fun S1 => (Yd_za fun v2 => (Yd_G (Yd_zp fun S3 => Yd_k)))) (Yd_G (Yd_let fun x2_4 => (Yd_za fun v5 => (Yd_zs fun S6 => (Yd_za fun v7 => (Yd_let fun x3_8 => Yd_rec)))))))
theorem zd_judgedOther_p245 {d : Nat} {x7 : Int} {x8 : Int} {S : ZS} : Yd (fun R => zb_judgedOther_p245 R d x7 x8 S) := by
  unfold zb_judgedOther_p245
  exact (Yd_if (Yd_if (Yd_I Yd_c fun v2 S1 => (Yd_I Yd_c fun v4 S3 => Yd_k)) (Yd_I Yd_c fun v6 S5 => Yd_k)) (Yd_I Yd_c fun v8 S7 => (Yd_let fun x9_9 => (Yd_if (Yd_let fun x7_10 => (Yd_za fun v11 => (Yd_let fun x8_12 => Yd_rec))) (Yd_za fun v13 => (Yd_V Yd_c fun S14 => (Yd_za fun v15 => (Yd_let fun x8_16 => Yd_rec))))))))
theorem zd_judgedSequence_p4 {d : Nat} {x2 : Int} {x3 : Int} {S : ZS} : Yd (fun R => zb_judgedSequence_p4 R d x2 x3 S) := by
  unfold zb_judgedSequence_p4
  exact (Yd_if Yd_k (Yd_I Yd_c fun v2 S1 => (Yd_let fun x2_3 => (Yd_za fun v4 => (Yd_let fun x3_5 => Yd_rec)))))
theorem zd_judgedLet_p40 {d : Nat} {x1 : Int} {x2 : Int} {x3 : Int} {x4 : Int} {x5 : Int} {x6 : Int} {S : ZS} : Yd (fun R => zb_judgedLet_p40 R d x1 x2 x3 x4 x5 x6 S) := by
  unfold zb_judgedLet_p40
  exact (Yd_if (Yd_za fun v1 => (Yd_I Yd_c fun v3 S2 => (Yd_let fun x6_4 => (Yd_zpZ fun S5 => (Yd_zpZ fun S6 => (Yd_zp fun S7 => (Yd_zp fun S8 => Yd_k))))))) (Yd_V Yd_c fun S9 => (Yd_za fun v10 => (Yd_let fun x6_11 => Yd_rec))))
theorem zd_does_p115 {d : Nat} {x2 : Int} {x3 : Int} {S : ZS} : Yd (fun R => zb_does_p115 R d x2 x3 S) := by
  unfold zb_does_p115
  exact (Yd_if Yd_k (Yd_if (Yd_za fun v1 => (Yd_I Yd_c fun v3 S2 => (Yd_if Yd_rec Yd_rec))) Yd_rec))
theorem zd_does_p165 {d : Nat} {x3 : Int} {x4 : Int} {S : ZS} : Yd (fun R => zb_does_p165 R d x3 x4 S) := by
  unfold zb_does_p165
  exact (Yd_if Yd_k (Yd_if (Yd_I Yd_c fun v2 S1 => (Yd_if Yd_rec Yd_rec)) Yd_rec))
theorem zd_isMaker_p21 {d : Nat} {x1 : Int} {S : ZS} : Yd (fun R => zb_isMaker_p21 R d x1 S) := by
  unfold zb_isMaker_p21
  exact (Yd_I Yd_c fun v2 S1 => (Yd_if Yd_k Yd_k))
theorem zd_through_p3 {d : Nat} {x1 : Int} {x2 : Int} {x3 : Int} {x4 : Int} {S : ZS} : Yd (fun R => zb_through_p3 R d x1 x2 x3 x4 S) := by
  unfold zb_through_p3
  exact (Yd_if (Yd_za fun v1 => (Yd_I Yd_c fun v3 S2 => (Yd_if (Yd_G (Yd_let fun x4_4 => Yd_rec)) (Yd_za fun v5 => Yd_k)))) (Yd_V Yd_c fun S6 => (Yd_let fun x4_7 => (Yd_let fun x5_8 => Yd_rec))))
theorem zd_sizeOf_p40 {d : Nat} {x2 : Int} {x3 : Int} {S : ZS} : Yd (fun R => zb_sizeOf_p40 R d x2 x3 S) := by
  unfold zb_sizeOf_p40
  exact (Yd_if (Yd_za fun v1 => Yd_k) (Yd_za fun v2 => (Yd_let fun x4_3 => (Yd_za fun v4 => (Yd_let fun x5_5 => (Yd_if (Yd_G (Yd_let fun x3_6 => (Yd_let fun x6_7 => (Yd_za fun v8 => (Yd_let fun x7_9 => Yd_rec))))) (Yd_za fun v10 => (Yd_zs fun S11 => (Yd_za fun v12 => (Yd_I Yd_c fun v14 S13 => (Yd_let fun x6_15 => (Yd_za fun v16 => (Yd_if Yd_rec (Yd_I Yd_c fun v18 S17 => (Yd_let fun x3_19 => Yd_rec)))))))))))))))
theorem zd_enterSize_p39 {d : Nat} {x1 : Int} {x2 : Int} {S : ZS} : Yd (fun R => zb_enterSize_p39 R d x1 x2 S) := by
  unfold zb_enterSize_p39
  exact (Yd_zs fun S1 => (Yd_za fun v2 => (Yd_zs fun S3 => (Yd_G Yd_k))))
theorem zd_markRim_p2 {d : Nat} {x1 : Int} {x2 : Int} {x3 : Int} {S : ZS} : Yd (fun R => zb_markRim_p2 R d x1 x2 x3 S) := by
  unfold zb_markRim_p2
  exact (Yd_if (Yd_zs fun S1 => (Yd_G (Yd_let fun x3_2 => Yd_rec))) (Yd_let fun x3_3 => Yd_rec))
theorem zd_spreadRim_p38 {d : Nat} {x2 : Int} {x4 : Int} {S : ZS} : Yd (fun R => zb_spreadRim_p38 R d x2 x4 S) := by
  unfold zb_spreadRim_p38
  exact (Yd_if Yd_k (Yd_G (Yd_let fun x4_1 => (Yd_za fun v2 => (Yd_let fun x5_3 => (Yd_za fun v4 => (Yd_if (Yd_za fun v5 => (Yd_let fun x6_6 => Yd_rec)) (Yd_za fun v7 => (Yd_if (Yd_za fun v8 => (Yd_let fun x6_9 => Yd_rec)) Yd_rec)))))))))
theorem zd_generalise_p35 {d : Nat} {x3 : Int} {S : ZS} : Yd (fun R => zb_generalise_p35 R d x3 S) := by
  unfold zb_generalise_p35
  exact (Yd_if Yd_k (Yd_G (Yd_let fun x3_1 => (Yd_za fun v2 => (Yd_let fun x4_3 => (Yd_za fun v4 => (Yd_if (Yd_za fun v5 => (Yd_if (Yd_za fun v6 => (Yd_if (Yd_za fun v7 => (Yd_zs fun S8 => Yd_rec)) Yd_rec)) Yd_rec)) Yd_rec)))))))
theorem zd_bindLines_p2 {d : Nat} {x1 : Int} {x2 : Int} {S : ZS} : Yd (fun R => zb_bindLines_p2 R d x1 x2 S) := by
  unfold zb_bindLines_p2
  exact (Yd_if (Yd_za fun v1 => (Yd_za fun v2 => (Yd_za fun v3 => (Yd_za fun v4 => (Yd_I Yd_c fun v6 S5 => (Yd_let fun x3_7 => (Yd_V Yd_c fun S8 => (Yd_G (Yd_let fun x2_9 => Yd_rec))))))))) (Yd_zp fun S10 => Yd_k))
theorem zd_judgedRec_p48 {d : Nat} {x1 : Int} {x2 : Int} {x3 : Int} {x4 : Int} {x5 : Int} {x6 : Int} {x7 : Int} {S : ZS} : Yd (fun R => zb_judgedRec_p48 R d x1 x2 x3 x4 x5 x6 x7 S) := by
  unfold zb_judgedRec_p48
  exact (Yd_if (Yd_let fun x7_1 => (Yd_let fun x8_2 => Yd_rec)) (Yd_za fun v3 => (Yd_let fun x8_4 => Yd_rec)))
theorem zd_judgedFun_p48 {d : Nat} {x1 : Int} {x2 : Int} {x3 : Int} {x4 : Int} {x5 : Int} {x6 : Int} {x7 : Int} {S : ZS} : Yd (fun R => zb_judgedFun_p48 R d x1 x2 x3 x4 x5 x6 x7 S) := by
  unfold zb_judgedFun_p48
  exact (Yd_if (Yd_let fun x7_1 => (Yd_let fun x8_2 => Yd_rec)) (Yd_za fun v3 => (Yd_za fun v4 => (Yd_za fun v5 => (Yd_za fun v6 => (Yd_I Yd_c fun v8 S7 => (Yd_let fun x8_9 => (Yd_zs fun S10 => (Yd_za fun v11 => (Yd_zs fun S12 => (Yd_za fun v13 => (Yd_let fun x7_14 => Yd_rec))))))))))))
theorem zd_judgedFunction_p18 {d : Nat} {x1 : Int} {x2 : Int} {x3 : Int} {x4 : Int} {x5 : Int} {S : ZS} : Yd (fun R => zb_judgedFunction_p18 R d x1 x2 x3 x4 x5 S) := by
  unfold zb_judgedFunction_p18
  exact (Yd_if (Yd_I Yd_c fun v2 S1 => (Yd_let fun x5_3 => (Yd_zs fun S4 => (Yd_let fun x6_5 => (Yd_let fun x7_6 => (Yd_let fun x8_7 => (Yd_let fun x9_8 => (Yd_zp fun S9 => (Yd_zp fun S10 => (Yd_zpZ fun S11 => (Yd_zpZ fun S12 => (Yd_let fun x10_13 => (Yd_G (Yd_zp fun S14 => (Yd_let fun x11_15 => (Yd_let fun x12_16 => (Yd_let fun x14_17 => Yd_rec))))))))))))))))) (Yd_G (Yd_let fun x4_18 => (Yd_za fun v19 => (Yd_let fun x5_20 => Yd_rec)))))
theorem zd_judgedClause_p53 {d : Nat} {x1 : Int} {x2 : Int} {x3 : Int} {x4 : Int} {x5 : Int} {x6 : Int} {x7 : Int} {x8 : Int} {S : ZS} : Yd (fun R => zb_judgedClause_p53 R d x1 x2 x3 x4 x5 x6 x7 x8 S) := by
  unfold zb_judgedClause_p53
  exact (Yd_if (Yd_if (Yd_let fun x8_1 => (Yd_let fun x9_2 => (Yd_let fun x10_3 => (Yd_zp fun S4 => (Yd_let fun x11_5 => (Yd_za fun v6 => (Yd_let fun x12_7 => Yd_rec))))))) (Yd_za fun v8 => Yd_k)) (Yd_G (Yd_let fun x7_9 => (Yd_za fun v10 => (Yd_let fun x8_11 => Yd_rec)))))
theorem zd_judgedType_p96 {d : Nat} {x1 : Int} {x2 : Int} {x3 : Int} {x4 : Int} {x5 : Int} {x6 : Int} {x7 : Int} {S : ZS} : Yd (fun R => zb_judgedType_p96 R d x1 x2 x3 x4 x5 x6 x7 S) := by
  unfold zb_judgedType_p96
  exact (Yd_if (Yd_za fun v1 => (Yd_I Yd_c fun v3 S2 => (Yd_I Yd_c fun v5 S4 => (Yd_I Yd_c fun v7 S6 => (Yd_let fun x7_8 => (Yd_zp fun S9 => (Yd_zp fun S10 => (Yd_zp fun S11 => (Yd_V Yd_c fun S12 => (Yd_zs fun S13 => Yd_k)))))))))) (Yd_za fun v14 => (Yd_zs fun S15 => (Yd_G (Yd_zp fun S16 => (Yd_za fun v17 => (Yd_let fun x7_18 => Yd_rec)))))))
theorem zd_listed_p10 {d : Nat} {x2 : Int} {x3 : Int} {x4 : Int} {x5 : Int} {S : ZS} : Yd (fun R => zb_listed_p10 R d x2 x3 x4 x5 S) := by
  unfold zb_listed_p10
  exact (Yd_if Yd_k (Yd_let fun x6_1 => Yd_rec))
theorem zd_judgedData_p43 {d : Nat} {x1 : Int} {x2 : Int} {x3 : Int} {x4 : Int} {x5 : Int} {x6 : Int} {S : ZS} : Yd (fun R => zb_judgedData_p43 R d x1 x2 x3 x4 x5 x6 S) := by
  unfold zb_judgedData_p43
  exact (Yd_if (Yd_zp fun S1 => (Yd_za fun v2 => (Yd_let fun x6_3 => Yd_rec))) (Yd_let fun x7_4 => Yd_rec))
theorem zd_judgedCons_p45 {d : Nat} {x2 : Int} {x3 : Int} {x4 : Int} {x5 : Int} {S : ZS} : Yd (fun R => zb_judgedCons_p45 R d x2 x3 x4 x5 S) := by
  unfold zb_judgedCons_p45
  exact (Yd_if Yd_k (Yd_za fun v1 => (Yd_I Yd_c fun v3 S2 => (Yd_if (Yd_let fun x6_4 => Yd_rec) (Yd_za fun v5 => Yd_k)))))
theorem zd_admits_p35 {d : Nat} {x3 : Int} {S : ZS} : Yd (fun R => zb_admits_p35 R d x3 S) := by
  unfold zb_admits_p35
  exact (Yd_if Yd_k (Yd_G (Yd_let fun x3_1 => (Yd_za fun v2 => (Yd_let fun x4_3 => (Yd_za fun v4 => (Yd_if (Yd_za fun v5 => (Yd_za fun v6 => (Yd_if Yd_k Yd_rec))) Yd_rec)))))))
theorem zd_judgedException_p70 {d : Nat} {x1 : Int} {x2 : Int} {y0 : Int} {S : ZS} : Yd (fun R => zb_judgedException_p70 R d x1 x2 y0 S) := by
  unfold zb_judgedException_p70
  exact (Yd_let fun x3_1 => (Yd_zp fun S2 => (Yd_if Yd_rec (Yd_I Yd_c fun v4 S3 => (Yd_if Yd_rec (Yd_za fun v5 => Yd_k))))))
theorem zd_judgedLocal_p29 {d : Nat} {x1 : Int} {x2 : Int} {x3 : Int} {x4 : Int} {x5 : Int} {S : ZS} : Yd (fun R => zb_judgedLocal_p29 R d x1 x2 x3 x4 x5 S) := by
  unfold zb_judgedLocal_p29
  exact (Yd_if (Yd_let fun x5_1 => (Yd_let fun x6_2 => (Yd_zpZ fun S3 => (Yd_za fun v4 => (Yd_let fun x7_5 => Yd_rec))))) (Yd_V Yd_c fun S6 => (Yd_za fun v7 => (Yd_let fun x5_8 => Yd_rec))))
theorem zd_finish_p4 {d : Nat} {x1 : Int} {x2 : Int} {S : ZS} : Yd (fun R => zb_finish_p4 R d x1 x2 S) := by
  unfold zb_finish_p4
  exact (Yd_if (Yd_za fun v1 => (Yd_if (Yd_za fun v2 => (Yd_if (Yd_zs fun S3 => (Yd_zs fun S4 => (Yd_zs fun S5 => Yd_rec))) Yd_rec)) Yd_rec)) (Yd_if (Yd_let fun x2_6 => Yd_rec) Yd_k))
theorem zd_hasUnknown_p35 {d : Nat} {x3 : Int} {S : ZS} : Yd (fun R => zb_hasUnknown_p35 R d x3 S) := by
  unfold zb_hasUnknown_p35
  exact (Yd_if Yd_k (Yd_G (Yd_let fun x3_1 => (Yd_za fun v2 => (Yd_let fun x4_3 => (Yd_za fun v4 => (Yd_if (Yd_za fun v5 => (Yd_if Yd_k Yd_rec)) Yd_rec)))))))
theorem zd_noteAll_p7 {d : Nat} {x1 : Int} {S : ZS} : Yd (fun R => zb_noteAll_p7 R d x1 S) := by
  unfold zb_noteAll_p7
  exact (Yd_if (Yd_za fun v1 => (Yd_let fun x2_2 => (Yd_za fun v3 => (Yd_let fun x3_4 => (Yd_zp fun S5 => (Yd_let fun x4_6 => (Yd_let fun x5_7 => (Yd_if (Yd_za fun v8 => (Yd_zs fun S9 => (Yd_let fun x4_10 => Yd_rec))) (Yd_if (Yd_za fun v11 => (Yd_za fun v12 => (Yd_I Yd_c fun v14 S13 => (Yd_let fun x5_15 => (Yd_za fun v16 => (Yd_let fun x6_17 => Yd_rec)))))) (Yd_if (Yd_za fun v18 => (Yd_let fun x6_19 => Yd_rec)) (Yd_za fun v20 => (Yd_let fun x6_21 => Yd_rec)))))))))))) Yd_k)
theorem zd_isUseful_p25 {d : Nat} {x1 : Int} {x2 : Int} {x3 : Int} {x4 : Int} {x5 : Int} {x6 : Int} {S : ZS} : Yd (fun R => zb_isUseful_p25 R d x1 x2 x3 x4 x5 x6 S) := by
  unfold zb_isUseful_p25
  exact (Yd_G (Yd_if (Yd_za fun v1 => (Yd_zs fun S2 => (Yd_G (Yd_let fun x6_3 => Yd_rec)))) (Yd_let fun x6_4 => Yd_rec)))
theorem zd_usefulHere_p59 {d : Nat} {x1 : Int} {x3 : Int} {x4 : Int} {x5 : Int} {x6 : Int} {x7 : Int} {S : ZS} : Yd (fun R => zb_usefulHere_p59 R d x1 x3 x4 x5 x6 x7 S) := by
  unfold zb_usefulHere_p59
  exact (Yd_if (Yd_if (Yd_za fun v1 => (Yd_I Yd_c fun v3 S2 => (Yd_let fun x6_4 => (Yd_I Yd_c fun v6 S5 => (Yd_let fun x5_7 => (Yd_G (Yd_let fun x7_8 => Yd_rec))))))) Yd_rec) Yd_rec)
theorem zd_takesAll_p2 {d : Nat} {x1 : Int} {S : ZS} : Yd (fun R => zb_takesAll_p2 R d x1 S) := by
  unfold zb_takesAll_p2
  exact (Yd_if (Yd_let fun x2_1 => (Yd_let fun x3_2 => Yd_rec)) Yd_k)
theorem zd_bare0_p2 {d : Nat} {x2 : Int} {S : ZS} : Yd (fun R => zb_bare0_p2 R d x2 S) := by
  unfold zb_bare0_p2
  exact (Yd_if Yd_k (Yd_za fun v1 => (Yd_let fun x3_2 => (Yd_if Yd_rec (Yd_if Yd_rec (Yd_if (Yd_let fun x2_3 => Yd_rec) (Yd_if (Yd_za fun v4 => (Yd_if (Yd_let fun x2_5 => Yd_rec) Yd_k)) Yd_k)))))))
theorem zd_headOf_p90 {d : Nat} {y0 : Int} {S : ZS} : Yd (fun R => zb_headOf_p90 R d y0 S) := by
  unfold zb_headOf_p90
  exact (Yd_let fun x3_1 => (Yd_if Yd_k Yd_k))
theorem zd_rowStep_p7 {d : Nat} {x1 : Int} {S : ZS} : Yd (fun R => zb_rowStep_p7 R d x1 S) := by
  unfold zb_rowStep_p7
  exact (Yd_if (Yd_za fun v1 => (Yd_I Yd_c fun v3 S2 => (Yd_V Yd_c fun S4 => (Yd_G (Yd_let fun x1_5 => Yd_rec))))) (Yd_let fun x1_6 => (Yd_G (Yd_let fun x2_7 => (Yd_let fun x3_8 => Yd_rec)))))
theorem zd_labelsOf_p74 {d : Nat} {x2 : Int} {x3 : Int} {S : ZS} : Yd (fun R => zb_labelsOf_p74 R d x2 x3 S) := by
  unfold zb_labelsOf_p74
  exact (Yd_if Yd_k (Yd_I Yd_c fun v2 S1 => (Yd_if Yd_rec (Yd_I Yd_c fun v4 S3 => (Yd_V Yd_c fun S5 => Yd_rec)))))
theorem zd_labelsOf_p119 {d : Nat} {x2 : Int} {S : ZS} : Yd (fun R => zb_labelsOf_p119 R d x2 S) := by
  unfold zb_labelsOf_p119
  exact (Yd_if Yd_k (Yd_za fun v1 => (Yd_I Yd_c fun v3 S2 => (Yd_if (Yd_za fun v4 => (Yd_let fun x2_5 => Yd_rec)) (Yd_za fun v6 => (Yd_V Yd_c fun S7 => (Yd_za fun v8 => (Yd_let fun x2_9 => Yd_rec))))))))
theorem zd_labelsOf_p15 {d : Nat} {x1 : Int} {x2 : Int} {S : ZS} : Yd (fun R => zb_labelsOf_p15 R d x1 x2 S) := by
  unfold zb_labelsOf_p15
  exact (Yd_if (Yd_I Yd_c fun v2 S1 => (Yd_I Yd_c fun v4 S3 => (Yd_I Yd_c fun v6 S5 => (Yd_if (Yd_G (Yd_let fun x2_7 => Yd_rec)) (Yd_I Yd_c fun v9 S8 => (Yd_V Yd_c fun S10 => (Yd_G (Yd_let fun x2_11 => Yd_rec)))))))) Yd_k)
theorem zd_partAt_p118 {d : Nat} {x2 : Int} {x3 : Int} {x4 : Int} {S : ZS} : Yd (fun R => zb_partAt_p118 R d x2 x3 x4 S) := by
  unfold zb_partAt_p118
  exact (Yd_I Yd_c fun v2 S1 => (Yd_if Yd_k (Yd_za fun v3 => (Yd_let fun x3_4 => (Yd_G (Yd_let fun x4_5 => Yd_rec))))))
theorem zd_partAt_p149 {d : Nat} {x2 : Int} {x3 : Int} {S : ZS} : Yd (fun R => zb_partAt_p149 R d x2 x3 S) := by
  unfold zb_partAt_p149
  exact (Yd_if Yd_k (Yd_za fun v1 => (Yd_if (Yd_za fun v2 => Yd_k) (Yd_za fun v3 => (Yd_let fun x3_4 => Yd_rec)))))
theorem zd_hasLabel_p2 {d : Nat} {x1 : Int} {x2 : Int} {S : ZS} : Yd (fun R => zb_hasLabel_p2 R d x1 x2 S) := by
  unfold zb_hasLabel_p2
  exact (Yd_if (Yd_za fun v1 => (Yd_if Yd_k (Yd_G (Yd_let fun x2_2 => Yd_rec)))) (Yd_zs fun S3 => (Yd_G (Yd_zp fun S4 => Yd_k))))
theorem zd_narrowed_p21 {d : Nat} {x1 : Int} {x2 : Int} {x3 : Int} {x4 : Int} {x5 : Int} {x6 : Int} {S : ZS} : Yd (fun R => zb_narrowed_p21 R d x1 x2 x3 x4 x5 x6 S) := by
  unfold zb_narrowed_p21
  exact (Yd_if (Yd_G (Yd_let fun x7_1 => (Yd_za fun v2 => (Yd_I Yd_c fun v4 S3 => (Yd_let fun x8_5 => (Yd_if (Yd_if Yd_rec (Yd_if (Yd_G (Yd_let fun x6_6 => Yd_rec)) (Yd_I Yd_c fun v8 S7 => (Yd_if (Yd_G (Yd_let fun x6_9 => Yd_rec)) Yd_rec)))) Yd_rec)))))) (Yd_G (Yd_zp fun S10 => (Yd_zp fun S11 => (Yd_G (Yd_zp fun S12 => (Yd_zp fun S13 => Yd_k)))))))
theorem zd_isSameConstant_p19 {d : Nat} {x1 : Int} {x2 : Int} {x3 : Int} {S : ZS} : Yd (fun R => zb_isSameConstant_p19 R d x1 x2 x3 S) := by
  unfold zb_isSameConstant_p19
  exact (Yd_za fun v1 => (Yd_if (Yd_za fun v2 => (Yd_za fun v3 => (Yd_if Yd_k Yd_k))) Yd_k))
theorem zd_J8_min {d : Nat} {x0 : Int} {x1 : Int} {S : ZS} : Yd (fun R => zb_J8_min R d x0 x1 S) := by
  unfold zb_J8_min
  exact (Yd_if Yd_k Yd_k)
theorem zd_order0_p17 {d : Nat} {x1 : Int} {x2 : Int} {x3 : Int} {x4 : Int} {S : ZS} : Yd (fun R => zb_order0_p17 R d x1 x2 x3 x4 S) := by
  unfold zb_order0_p17
  exact (Yd_if (Yd_I Yd_c fun v2 S1 => (Yd_I Yd_c fun v4 S3 => (Yd_if (Yd_G (Yd_let fun x4_5 => Yd_rec)) (Yd_I Yd_c fun v7 S6 => (Yd_I Yd_c fun v9 S8 => (Yd_G Yd_k)))))) (Yd_I Yd_c fun v11 S10 => (Yd_I Yd_c fun v13 S12 => (Yd_G Yd_k))))
theorem zd_areAllTold_p7 {d : Nat} {x1 : Int} {x2 : Int} {S : ZS} : Yd (fun R => zb_areAllTold_p7 R d x1 x2 S) := by
  unfold zb_areAllTold_p7
  exact (Yd_za fun v1 => (Yd_za fun v2 => (Yd_G (Yd_if (Yd_let fun x3_3 => (Yd_let fun x4_4 => Yd_rec)) Yd_k))))
theorem zd_usefulByEach_p33 {d : Nat} {x1 : Int} {x2 : Int} {x3 : Int} {x4 : Int} {x5 : Int} {x6 : Int} {x7 : Int} {S : ZS} : Yd (fun R => zb_usefulByEach_p33 R d x1 x2 x3 x4 x5 x6 x7 S) := by
  unfold zb_usefulByEach_p33
  exact (Yd_za fun v1 => (Yd_za fun v2 => (Yd_G (Yd_if (Yd_if (Yd_zp fun S3 => (Yd_zp fun S4 => (Yd_zp fun S5 => (Yd_zp fun S6 => (Yd_I Yd_c fun v8 S7 => (Yd_if (Yd_G Yd_rec) (Yd_G Yd_rec))))))) (Yd_zp fun S9 => Yd_k)) (Yd_zp fun S10 => Yd_k)))))
theorem zd_slide_p14 {d : Nat} {x1 : Int} {x2 : Int} {x3 : Int} {S : ZS} : Yd (fun R => zb_slide_p14 R d x1 x2 x3 S) := by
  unfold zb_slide_p14
  exact (Yd_if (Yd_za fun v1 => (Yd_zs fun S2 => (Yd_G (Yd_let fun x3_3 => Yd_rec)))) (Yd_zp fun S4 => (Yd_G (Yd_zp fun S5 => Yd_k))))
theorem zd_note0_p5 {d : Nat} {x1 : Int} {x2 : Int} {x3 : Int} {S : ZS} : Yd (fun R => zb_note0_p5 R d x1 x2 x3 S) := by
  unfold zb_note0_p5
  exact (Yd_if Yd_rec (Yd_za fun v1 => (Yd_if (Yd_za fun v2 => (Yd_if (Yd_za fun v3 => (Yd_if Yd_rec Yd_rec)) Yd_rec)) Yd_rec)))
theorem zd_runAll_p24 {d : Nat}  {S : ZS} : Yd (fun R => zb_runAll_p24 R d  S) := by
  unfold zb_runAll_p24
  exact (Yd_if (Yd_if (Yd_if Yd_k Yd_rec) Yd_rec) Yd_k)
theorem zd_push0_p20 {d : Nat} {x2 : Int} {x3 : Int} {y0 : Int} {y1 : Int} {y2 : Int} {S : ZS} : Yd (fun R => zb_push0_p20 R d x2 x3 y0 y1 y2 S) := by
  unfold zb_push0_p20
  exact (Yd_zs fun S1 => (Yd_zsL fun S2 => (Yd_G (Yd_zp fun S3 => Yd_k))))
theorem zd_work_p2 {d : Nat} {x2 : Int} {x3 : Int} {S : ZS} : Yd (fun R => zb_work_p2 R d x2 x3 S) := by
  unfold zb_work_p2
  exact (Yd_za fun v1 => (Yd_if (Yd_za fun v2 => (Yd_let fun x3_3 => Yd_rec)) (Yd_za fun v4 => (Yd_if (Yd_za fun v5 => (Yd_J Yd_c fun v7 S6 => (Yd_V Yd_c fun S8 => Yd_k))) (Yd_if (Yd_za fun v10 => (Yd_J Yd_c fun v12 S11 => (Yd_V Yd_c fun S13 => Yd_k))) (Yd_if (Yd_za fun v15 => (Yd_J Yd_c fun v17 S16 => (Yd_V Yd_c fun S18 => Yd_k))) (Yd_if (Yd_J Yd_c fun v21 S20 => (Yd_V Yd_c fun S22 => Yd_k)) (Yd_if (Yd_za fun v24 => (Yd_J Yd_c fun v26 S25 => (Yd_V Yd_c fun S27 => Yd_k))) (Yd_if (Yd_V Yd_c fun S29 => Yd_k) (Yd_if (Yd_V Yd_c fun S31 => Yd_k) (Yd_if (Yd_za fun v33 => (Yd_V Yd_c fun S34 => Yd_k)) (Yd_if (Yd_za fun v36 => (Yd_V Yd_c fun S37 => Yd_k)) (Yd_if (Yd_za fun v39 => (Yd_V Yd_c fun S40 => Yd_k)) (Yd_if (Yd_V Yd_c fun S42 => Yd_k) (Yd_if (Yd_za fun v44 => (Yd_V Yd_c fun S45 => Yd_k)) (Yd_if (Yd_za fun v47 => (Yd_J Yd_c fun v49 S48 => (Yd_V Yd_c fun S50 => Yd_k))) (Yd_if (Yd_za fun v52 => (Yd_V Yd_c fun S53 => Yd_k)) (Yd_if (Yd_za fun v55 => (Yd_V Yd_c fun S56 => Yd_k)) (Yd_if (Yd_za fun v58 => (Yd_V Yd_c fun S59 => Yd_k)) (Yd_if (Yd_V Yd_c fun S61 => Yd_k) (Yd_if (Yd_za fun v63 => (Yd_V Yd_c fun S64 => Yd_k)) (Yd_V Yd_c fun S66 => Yd_k))))))))))))))))))))))
theorem zd_placeIn_p2 {d : Nat} {x1 : Int} {x2 : Int} {x3 : Int} {S : ZS} : Yd (fun R => zb_placeIn_p2 R d x1 x2 x3 S) := by
  unfold zb_placeIn_p2
  exact (Yd_za fun v1 => (Yd_za fun v2 => (Yd_if Yd_k (Yd_G (Yd_let fun x3_3 => Yd_rec)))))
theorem zd_closure_p38 {d : Nat} {x1 : Int} {x2 : Int} {x3 : Int} {x4 : Int} {S : ZS} : Yd (fun R => zb_closure_p38 R d x1 x2 x3 x4 S) := by
  unfold zb_closure_p38
  exact (Yd_if (Yd_za fun v1 => (Yd_za fun v2 => (Yd_J Yd_c fun v4 S3 => (Yd_zsL fun S5 => (Yd_G (Yd_let fun x4_6 => Yd_rec)))))) (Yd_J Yd_c fun v8 S7 => Yd_k))
theorem zd_applications0_p2 {d : Nat} {x2 : Int} {x3 : Int} {S : ZS} : Yd (fun R => zb_applications0_p2 R d x2 x3 S) := by
  unfold zb_applications0_p2
  exact (Yd_za fun v1 => (Yd_za fun v2 => (Yd_if (Yd_za fun v3 => (Yd_let fun x3_4 => Yd_rec)) (Yd_za fun v5 => (Yd_V Yd_c fun S6 => Yd_k)))))
theorem zd_sequence_p23 {d : Nat} {x1 : Int} {x2 : Int} {S : ZS} : Yd (fun R => zb_sequence_p23 R d x1 x2 S) := by
  unfold zb_sequence_p23
  exact (Yd_if (Yd_V Yd_c fun S1 => Yd_k) (Yd_za fun v2 => (Yd_if (Yd_V Yd_c fun S3 => Yd_k) (Yd_V Yd_c fun S4 => Yd_k))))
theorem zd_goesOn_2_p58 {d : Nat} {x1 : Int} {x2 : Int} {y0 : Int} {S : ZS} : Yd (fun R => zb_goesOn_2_p58 R d x1 x2 y0 S) := by
  unfold zb_goesOn_2_p58
  exact (Yd_let fun x3_1 => (Yd_let fun x4_2 => (Yd_if (Yd_V Yd_c fun S3 => Yd_k) (Yd_if (Yd_I Yd_c fun v6 S5 => (Yd_if (Yd_za fun v7 => (Yd_V Yd_c fun S8 => Yd_k)) (Yd_za fun v9 => (Yd_V Yd_c fun S10 => Yd_k)))) (Yd_if (Yd_V Yd_c fun S12 => Yd_k) (Yd_if (Yd_V Yd_c fun S14 => Yd_k) (Yd_if (Yd_V Yd_c fun S16 => Yd_k) (Yd_if (Yd_V Yd_c fun S18 => (Yd_za fun v19 => (Yd_V Yd_c fun S20 => Yd_k))) (Yd_if (Yd_V Yd_c fun S22 => Yd_k) (Yd_if (Yd_V Yd_c fun S24 => (Yd_za fun v25 => (Yd_V Yd_c fun S26 => Yd_k))) (Yd_if (Yd_V Yd_c fun S28 => Yd_k) (Yd_if (Yd_I Yd_c fun v31 S30 => (Yd_za fun v32 => (Yd_if Yd_rec Yd_rec))) (Yd_if (Yd_I Yd_c fun v35 S34 => (Yd_if (Yd_J Yd_c fun v37 S36 => (Yd_V Yd_c fun S38 => Yd_k)) (Yd_za fun v39 => (Yd_V Yd_c fun S40 => Yd_k)))) (Yd_if (Yd_V Yd_c fun S42 => Yd_k) (Yd_if (Yd_za fun v44 => (Yd_V Yd_c fun S45 => Yd_k)) (Yd_if Yd_k (Yd_if (Yd_V Yd_c fun S48 => Yd_k) (Yd_if (Yd_V Yd_c fun S50 => Yd_k) (Yd_if (Yd_V Yd_c fun S52 => Yd_k) (Yd_if (Yd_V Yd_c fun S54 => Yd_k) (Yd_V Yd_c fun S56 => Yd_k)))))))))))))))))))))
theorem zd_choose_p3 {d : Nat} {x2 : Int} {x4 : Int} {x5 : Int} {x6 : Int} {S : ZS} : Yd (fun R => zb_choose_p3 R d x2 x4 x5 x6 S) := by
  unfold zb_choose_p3
  exact (Yd_if (Yd_if (Yd_V Yd_c fun S1 => Yd_k) (Yd_V Yd_c fun S2 => Yd_k)) (Yd_za fun v3 => (Yd_I Yd_c fun v5 S4 => (Yd_if (Yd_za fun v6 => (Yd_let fun x6_7 => Yd_rec)) (Yd_za fun v8 => (Yd_V Yd_c fun S9 => Yd_k))))))
theorem zd_matchesRow_p11 {d : Nat} {x2 : Int} {x4 : Int} {x5 : Int} {S : ZS} : Yd (fun R => zb_matchesRow_p11 R d x2 x4 x5 S) := by
  unfold zb_matchesRow_p11
  exact (Yd_if Yd_k (Yd_if Yd_k (Yd_za fun v1 => (Yd_za fun v2 => (Yd_J Yd_c fun v4 S3 => (Yd_I Yd_c fun v6 S5 => (Yd_let fun x4_7 => (Yd_za fun v8 => (Yd_let fun x5_9 => Yd_rec)))))))))
theorem zd_part_p10 {d : Nat} {x1 : Int} {x3 : Int} {x4 : Int} {x5 : Int} {S : ZS} : Yd (fun R => zb_part_p10 R d x1 x3 x4 x5 S) := by
  unfold zb_part_p10
  exact (Yd_if (Yd_I Yd_c fun v2 S1 => (Yd_if (Yd_J Yd_c fun v4 S3 => Yd_k) (Yd_G (Yd_let fun x5_5 => Yd_rec)))) Yd_k)
theorem zd_matchesTuple_p14 {d : Nat} {x2 : Int} {x4 : Int} {x5 : Int} {x6 : Int} {S : ZS} : Yd (fun R => zb_matchesTuple_p14 R d x2 x4 x5 x6 S) := by
  unfold zb_matchesTuple_p14
  exact (Yd_if Yd_k (Yd_if Yd_k (Yd_J Yd_c fun v2 S1 => (Yd_I Yd_c fun v4 S3 => (Yd_let fun x4_5 => (Yd_G (Yd_let fun x5_6 => (Yd_za fun v7 => (Yd_let fun x6_8 => Yd_rec)))))))))
theorem zd_matchesList_p11 {d : Nat} {x4 : Int} {x6 : Int} {S : ZS} : Yd (fun R => zb_matchesList_p11 R d x4 x6 S) := by
  unfold zb_matchesList_p11
  exact (Yd_if (Yd_J Yd_c fun v2 S1 => (Yd_if Yd_k Yd_k)) (Yd_J Yd_c fun v4 S3 => (Yd_if Yd_k (Yd_I Yd_c fun v6 S5 => (Yd_zaL fun v7 => (Yd_let fun x7_8 => (Yd_J Yd_c fun v10 S9 => (Yd_I Yd_c fun v12 S11 => (Yd_if Yd_k (Yd_J Yd_c fun v14 S13 => (Yd_let fun x4_15 => (Yd_za fun v16 => (Yd_let fun x6_17 => Yd_rec)))))))))))))
theorem zd_isMadeBy_p82 {d : Nat} {x1 : Int} {x2 : Int} {y0 : Int} {y1 : Int} {S : ZS} : Yd (fun R => zb_isMadeBy_p82 R d x1 x2 y0 y1 S) := by
  unfold zb_isMadeBy_p82
  exact (Yd_if (Yd_I Yd_c fun v2 S1 => (Yd_zaL fun v3 => (Yd_I Yd_c fun v5 S4 => (Yd_if Yd_k Yd_k)))) Yd_k)
theorem zd_goesOnMore_p79 {d : Nat} {x2 : Int} {x3 : Int} {x4 : Int} {x6 : Int} {S : ZS} : Yd (fun R => zb_goesOnMore_p79 R d x2 x3 x4 x6 S) := by
  unfold zb_goesOnMore_p79
  exact (Yd_if (Yd_V Yd_c fun S1 => Yd_k) (Yd_za fun v2 => (Yd_if (Yd_V Yd_c fun S3 => Yd_k) (Yd_V Yd_c fun S4 => Yd_k))))
theorem zd_apply_p144 {d : Nat} {x1 : Int} {x3 : Int} {x5 : Int} {x6 : Int} {y0 : Int} {S : ZS} : Yd (fun R => zb_apply_p144 R d x1 x3 x5 x6 y0 S) := by
  unfold zb_apply_p144
  exact (Yd_let fun x7_1 => (Yd_za fun v2 => (Yd_G (Yd_if (Yd_J Yd_c fun v4 S3 => (Yd_V Yd_c fun S5 => Yd_k)) (Yd_V Yd_c fun S6 => Yd_k)))))
theorem zd_firstOf_p319 {d : Nat} {x6 : Int} {x9 : Int} {S : ZS} : Yd (fun R => zb_firstOf_p319 R d x6 x9 S) := by
  unfold zb_firstOf_p319
  exact (Yd_I Yd_c fun v2 S1 => (Yd_if (Yd_I Yd_c fun v4 S3 => (Yd_V Yd_c fun S5 => (Yd_G (Yd_let fun x9_6 => Yd_rec)))) (Yd_J Yd_c fun v8 S7 => Yd_k)))
theorem zd_first_p113 {d : Nat} {y0 : Int} {y1 : Int} {S : ZS} : Yd (fun R => zb_first_p113 R d y0 y1 S) := by
  unfold zb_first_p113
  exact (Yd_if (Yd_J Yd_c fun v2 S1 => Yd_k) (Yd_J Yd_c fun v4 S3 => Yd_k))
theorem zd_first_p302 {d : Nat} {x1 : Int} {x6 : Int} {x8 : Int} {x11 : Int} {S : ZS} : Yd (fun R => zb_first_p302 R d x1 x6 x8 x11 S) := by
  unfold zb_first_p302
  exact (Yd_if (Yd_J Yd_c fun v2 S1 => Yd_k) (Yd_G (Yd_J Yd_c fun v4 S3 => Yd_k)))
theorem zd_first_p281 {d : Nat} {x1 : Int} {x6 : Int} {x8 : Int} {x11 : Int} {y0 : Int} {S : ZS} : Yd (fun R => zb_first_p281 R d x1 x6 x8 x11 y0 S) := by
  unfold zb_first_p281
  exact (Yd_if (Yd_if Yd_rec (Yd_G (Yd_let fun x11_1 => Yd_rec))) (Yd_if Yd_rec (Yd_G (Yd_let fun x11_2 => Yd_rec))))
theorem zd_areEqual_p9 {d : Nat} {x5 : Int} {x6 : Int} {x8 : Int} {S : ZS} : Yd (fun R => zb_areEqual_p9 R d x5 x6 x8 S) := by
  unfold zb_areEqual_p9
  exact (Yd_J Yd_c fun v2 S1 => (Yd_let fun x10_3 => (Yd_if (Yd_J Yd_c fun v5 S4 => (Yd_if (Yd_I Yd_c fun v7 S6 => (Yd_if Yd_k (Yd_I Yd_c fun v9 S8 => (Yd_zaL fun v10 => (Yd_I Yd_c fun v12 S11 => (Yd_zaL fun v13 => (Yd_if (Yd_I Yd_c fun v15 S14 => (Yd_zaL fun v16 => (Yd_let fun x6_17 => (Yd_I Yd_c fun v19 S18 => (Yd_zaL fun v20 => (Yd_let fun x8_21 => Yd_rec)))))) Yd_k))))))) Yd_rec)) Yd_rec)))
theorem zd_J19_compare {d : Nat} {x0 : Int} {x1 : Int} {S : ZS} : Yd (fun R => zb_J19_compare R d x0 x1 S) := by
  unfold zb_J19_compare
  exact (Yd_if Yd_k (Yd_if Yd_k Yd_k))
theorem zd_joinedStrings_p69 {d : Nat} {x5 : Int} {x6 : Int} {x8 : Int} {x10 : Int} {S : ZS} : Yd (fun R => zb_joinedStrings_p69 R d x5 x6 x8 x10 S) := by
  unfold zb_joinedStrings_p69
  exact (Yd_I Yd_c fun v2 S1 => (Yd_if (Yd_I Yd_c fun v4 S3 => (Yd_V Yd_c fun S5 => (Yd_G (Yd_let fun x10_6 => Yd_rec)))) (Yd_let fun x10_7 => Yd_rec)))
theorem zd_substringOf_p55 {d : Nat} {x1 : Int} {x2 : Int} {x3 : Int} {x4 : Int} {x6 : Int} {S : ZS} : Yd (fun R => zb_substringOf_p55 R d x1 x2 x3 x4 x6 S) := by
  unfold zb_substringOf_p55
  exact (Yd_if (Yd_G (Yd_I Yd_c fun v2 S1 => (Yd_V Yd_c fun S3 => (Yd_G (Yd_let fun x6_4 => Yd_rec))))) Yd_k)
theorem zd_exploded_p21 {d : Nat} {x1 : Int} {x2 : Int} {x4 : Int} {S : ZS} : Yd (fun R => zb_exploded_p21 R d x1 x2 x4 S) := by
  unfold zb_exploded_p21
  exact (Yd_if Yd_k (Yd_if (Yd_I Yd_c fun v2 S1 => (Yd_J Yd_c fun v4 S3 => (Yd_J Yd_c fun v6 S5 => (Yd_let fun x5_7 => (Yd_if (Yd_J Yd_c fun v9 S8 => (Yd_let fun x2_10 => (Yd_G (Yd_let fun x4_11 => Yd_rec)))) (Yd_G (Yd_let fun x4_12 => Yd_rec))))))) Yd_k))
theorem zd_tuple_p41 {d : Nat} {x1 : Int} {x2 : Int} {S : ZS} : Yd (fun R => zb_tuple_p41 R d x1 x2 S) := by
  unfold zb_tuple_p41
  exact (Yd_if (Yd_I Yd_c fun v2 S1 => (Yd_zs fun S3 => (Yd_G (Yd_zp fun S4 => (Yd_G (Yd_let fun x2_5 => Yd_rec)))))) (Yd_G (Yd_zp fun S6 => (Yd_G (Yd_zs fun S7 => (Yd_za fun v8 => Yd_k))))))
theorem zd_imploded_p5 {d : Nat} {x1 : Int} {x3 : Int} {x4 : Int} {S : ZS} : Yd (fun R => zb_imploded_p5 R d x1 x3 x4 S) := by
  unfold zb_imploded_p5
  exact (Yd_J Yd_c fun v2 S1 => (Yd_if (Yd_if (Yd_G (Yd_I Yd_c fun v4 S3 => (Yd_if Yd_k (Yd_J Yd_c fun v6 S5 => (Yd_let fun x4_7 => (Yd_let fun x6_8 => Yd_rec)))))) (Yd_V Yd_c fun S9 => Yd_k)) (Yd_G (Yd_let fun x3_10 => (Yd_J Yd_c fun v12 S11 => (Yd_let fun x4_13 => Yd_rec))))))
theorem zd_digitsOf_p12 {d : Nat} {x1 : Int} {y0 : Int} {S : ZS} : Yd (fun R => zb_digitsOf_p12 R d x1 y0 S) := by
  unfold zb_digitsOf_p12
  exact (Yd_let fun x3_1 => (Yd_if (Yd_let fun x5_2 => (Yd_let fun x6_3 => Yd_rec)) (Yd_let fun x5_4 => (Yd_let fun x6_5 => Yd_rec))))
theorem zd_putOut_p20 {d : Nat}  {S : ZS} : Yd (fun R => zb_putOut_p20 R d  S) := by
  unfold zb_putOut_p20
  exact (Yd_if (Yd_G (Yd_zp fun S1 => Yd_k)) Yd_k)
theorem zd_partial_p52 {d : Nat} {x1 : Int} {x3 : Int} {x5 : Int} {x6 : Int} {x7 : Int} {S : ZS} : Yd (fun R => zb_partial_p52 R d x1 x3 x5 x6 x7 S) := by
  unfold zb_partial_p52
  exact (Yd_if (Yd_I Yd_c fun v2 S1 => (Yd_zaL fun v3 => (Yd_zsL fun S4 => (Yd_G (Yd_let fun x7_5 => Yd_rec))))) (Yd_zsL fun S6 => (Yd_J Yd_c fun v8 S7 => Yd_k)))
theorem zd_J8_max {d : Nat} {x0 : Int} {x1 : Int} {S : ZS} : Yd (fun R => zb_J8_max R d x0 x1 S) := by
  unfold zb_J8_max
  exact (Yd_if Yd_k Yd_k)
theorem zd_call_p115 {d : Nat} {x1 : Int} {x3 : Int} {x5 : Int} {S : ZS} : Yd (fun R => zb_call_p115 R d x1 x3 x5 S) := by
  unfold zb_call_p115
  exact (Yd_J Yd_c fun v2 S1 => (Yd_zpL fun S3 => (Yd_I Yd_c fun v5 S4 => (Yd_zaL fun v6 => (Yd_zp fun S7 => (Yd_let fun x7_8 => Yd_rec))))))
theorem zd_body_p50 {d : Nat} {x2 : Int} {S : ZS} : Yd (fun R => zb_body_p50 R d x2 S) := by
  unfold zb_body_p50
  exact (Yd_if (Yd_V Yd_c fun S1 => Yd_k) (Yd_let fun x3_2 => (Yd_let fun x4_3 => (Yd_za fun v4 => (Yd_let fun x5_5 => Yd_rec)))))
theorem zd_rec_p7 {d : Nat} {x1 : Int} {x2 : Int} {S : ZS} : Yd (fun R => zb_rec_p7 R d x1 x2 S) := by
  unfold zb_rec_p7
  exact (Yd_if (Yd_za fun v1 => (Yd_let fun x2_2 => Yd_rec)) (Yd_za fun v3 => (Yd_za fun v4 => (Yd_J Yd_c fun v6 S5 => (Yd_let fun x3_7 => (Yd_if (Yd_za fun v8 => (Yd_I Yd_c fun v10 S9 => (Yd_V Yd_c fun S11 => (Yd_za fun v12 => (Yd_let fun x2_13 => Yd_rec))))) Yd_k))))))
theorem zd_nameIn_p2 {d : Nat} {x2 : Int} {S : ZS} : Yd (fun R => zb_nameIn_p2 R d x2 S) := by
  unfold zb_nameIn_p2
  exact (Yd_za fun v1 => (Yd_if (Yd_za fun v2 => (Yd_let fun x2_3 => Yd_rec)) (Yd_za fun v4 => Yd_k)))
theorem zd_tie_p3 {d : Nat} {x1 : Int} {x2 : Int} {x4 : Int} {S : ZS} : Yd (fun R => zb_tie_p3 R d x1 x2 x4 S) := by
  unfold zb_tie_p3
  exact (Yd_za fun v1 => (Yd_if (Yd_I Yd_c fun v3 S2 => (Yd_za fun v4 => (Yd_za fun v5 => (Yd_J Yd_c fun v7 S6 => (Yd_zsL fun S8 => (Yd_G (Yd_let fun x4_9 => Yd_rec))))))) Yd_k))
theorem zd_fun_p7 {d : Nat} {x1 : Int} {x2 : Int} {S : ZS} : Yd (fun R => zb_fun_p7 R d x1 x2 S) := by
  unfold zb_fun_p7
  exact (Yd_if (Yd_za fun v1 => (Yd_let fun x2_2 => Yd_rec)) (Yd_za fun v3 => (Yd_J Yd_c fun v5 S4 => (Yd_let fun x3_6 => (Yd_if (Yd_za fun v7 => (Yd_V Yd_c fun S8 => (Yd_za fun v9 => (Yd_let fun x2_10 => Yd_rec)))) Yd_k)))))
theorem zd_oneMore_p68 {d : Nat} {x1 : Int} {x2 : Int} {x7 : Int} {x8 : Int} {S : ZS} : Yd (fun R => zb_oneMore_p68 R d x1 x2 x7 x8 S) := by
  unfold zb_oneMore_p68
  exact (Yd_if (Yd_G (Yd_zp fun S1 => (Yd_if (Yd_J Yd_c fun v3 S2 => (Yd_V Yd_c fun S4 => Yd_k)) (Yd_if (Yd_J Yd_c fun v6 S5 => (Yd_V Yd_c fun S7 => Yd_k)) (Yd_J Yd_c fun v9 S8 => (Yd_V Yd_c fun S10 => Yd_k)))))) (Yd_G (Yd_let fun x7_11 => (Yd_za fun v12 => (Yd_let fun x8_13 => Yd_rec)))))
theorem zd_listOf_p17 {d : Nat} {x2 : Int} {x4 : Int} {S : ZS} : Yd (fun R => zb_listOf_p17 R d x2 x4 S) := by
  unfold zb_listOf_p17
  exact (Yd_if Yd_k (Yd_if (Yd_zaL fun v1 => (Yd_J Yd_c fun v3 S2 => (Yd_let fun x5_4 => (Yd_if (Yd_J Yd_c fun v6 S5 => (Yd_let fun x2_7 => (Yd_G (Yd_let fun x4_8 => Yd_rec)))) (Yd_G (Yd_let fun x4_9 => Yd_rec)))))) Yd_k))
theorem zd_rowOf_p46 {d : Nat} {x1 : Int} {x3 : Int} {x4 : Int} {y0 : Int} {y1 : Int} {S : ZS} : Yd (fun R => zb_rowOf_p46 R d x1 x3 x4 y0 y1 S) := by
  unfold zb_rowOf_p46
  exact (Yd_zsL fun S1 => (Yd_let fun x5_2 => (Yd_za fun v3 => (Yd_let fun x6_4 => Yd_rec))))
theorem zd_shapeOf_p38 {d : Nat} {x1 : Int} {x2 : Int} {x3 : Int} {S : ZS} : Yd (fun R => zb_shapeOf_p38 R d x1 x2 x3 S) := by
  unfold zb_shapeOf_p38
  exact (Yd_if (Yd_I Yd_c fun v2 S1 => (Yd_zs fun S3 => (Yd_za fun v4 => (Yd_if (Yd_za fun v5 => Yd_k) (Yd_zs fun S6 => (Yd_G (Yd_zp fun S7 => (Yd_G (Yd_zp fun S8 => (Yd_za fun v9 => Yd_k)))))))))) (Yd_G (Yd_let fun x4_10 => Yd_rec)))
theorem zd_isAhead_p8 {d : Nat} {x1 : Int} {x2 : Int} {S : ZS} : Yd (fun R => zb_isAhead_p8 R d x1 x2 S) := by
  unfold zb_isAhead_p8
  exact (Yd_if (Yd_if (Yd_if Yd_k Yd_k) Yd_k) Yd_k)
theorem zd_isAhead_p46 {d : Nat} {x1 : Int} {x2 : Int} {x3 : Int} {x4 : Int} {S : ZS} : Yd (fun R => zb_isAhead_p46 R d x1 x2 x3 x4 S) := by
  unfold zb_isAhead_p46
  exact (Yd_if (Yd_za fun v1 => (Yd_za fun v2 => (Yd_za fun v3 => (Yd_za fun v4 => (Yd_G (Yd_let fun x5_5 => (Yd_if (Yd_G (Yd_let fun x4_6 => Yd_rec)) (Yd_if Yd_k Yd_k)))))))) (Yd_za fun v7 => (Yd_za fun v8 => (Yd_if Yd_k Yd_k))))
theorem zd_likeShape_p2 {d : Nat} {x1 : Int} {x2 : Int} {S : ZS} : Yd (fun R => zb_likeShape_p2 R d x1 x2 S) := by
  unfold zb_likeShape_p2
  exact (Yd_if (Yd_za fun v1 => (Yd_if (Yd_let fun x3_2 => (Yd_let fun x4_3 => Yd_rec)) (Yd_let fun x3_4 => (Yd_let fun x4_5 => Yd_rec)))) Yd_k)
theorem zd_unwind_p48 {d : Nat} {x1 : Int} {S : ZS} : Yd (fun R => zb_unwind_p48 R d x1 S) := by
  unfold zb_unwind_p48
  exact (Yd_if (Yd_zp fun S1 => (Yd_za fun v2 => (Yd_za fun v3 => (Yd_za fun v4 => (Yd_if (Yd_V Yd_c fun S5 => Yd_rec) (Yd_V Yd_c fun S6 => Yd_rec)))))) Yd_rec)
theorem zd_keepBound_p22 {d : Nat} {x1 : Int} {x2 : Int} {x3 : Int} {S : ZS} : Yd (fun R => zb_keepBound_p22 R d x1 x2 x3 S) := by
  unfold zb_keepBound_p22
  exact (Yd_if (Yd_zp fun S1 => (Yd_V Yd_c fun S2 => (Yd_zp fun S3 => (Yd_za fun v4 => (Yd_let fun x3_5 => (Yd_G (Yd_let fun x4_6 => Yd_rec))))))) (Yd_zs fun S7 => (Yd_za fun v8 => (Yd_if (Yd_za fun v9 => Yd_rec) (Yd_za fun v10 => (Yd_I Yd_c fun v12 S11 => Yd_rec))))))
theorem zd_keepInfix_p7 {d : Nat} {x1 : Int} {x2 : Int} {S : ZS} : Yd (fun R => zb_keepInfix_p7 R d x1 x2 S) := by
  unfold zb_keepInfix_p7
  exact (Yd_za fun v1 => (Yd_if (Yd_za fun v2 => (Yd_zp fun S3 => (Yd_za fun v4 => (Yd_let fun x2_5 => (Yd_G (Yd_let fun x3_6 => Yd_rec)))))) (Yd_let fun x3_7 => (Yd_let fun x4_8 => Yd_rec))))
theorem zd_keepTypes_p7 {d : Nat} {x1 : Int} {x2 : Int} {S : ZS} : Yd (fun R => zb_keepTypes_p7 R d x1 x2 S) := by
  unfold zb_keepTypes_p7
  exact (Yd_za fun v1 => (Yd_if (Yd_let fun x2_2 => (Yd_G (Yd_let fun x3_3 => Yd_rec))) (Yd_zs fun S4 => (Yd_G (Yd_let fun x1_5 => (Yd_za fun v6 => (Yd_let fun x2_7 => Yd_rec)))))))
theorem zd_endOf_p32 {d : Nat} {x2 : Int} {x3 : Int} {y0 : Int} {S : ZS} : Yd (fun R => zb_endOf_p32 R d x2 x3 y0 S) := by
  unfold zb_endOf_p32
  exact (Yd_let fun x4_1 => (Yd_if (Yd_za fun v2 => (Yd_let fun x5_3 => (Yd_let fun x6_4 => Yd_rec))) (Yd_let fun x5_5 => (Yd_let fun x6_6 => Yd_rec))))
theorem zd_noteLines_p10 {d : Nat} {x1 : Int} {S : ZS} : Yd (fun R => zb_noteLines_p10 R d x1 S) := by
  unfold zb_noteLines_p10
  exact (Yd_if (Yd_za fun v1 => (Yd_let fun x2_2 => (Yd_za fun v3 => (Yd_if (Yd_za fun v4 => (Yd_za fun v5 => (Yd_zs fun S6 => Yd_rec))) Yd_rec)))) Yd_k)
theorem zd_sayValue_p149 {d : Nat} {x4 : Int} {x5 : Int} {S : ZS} : Yd (fun R => zb_sayValue_p149 R d x4 x5 S) := by
  unfold zb_sayValue_p149
  exact (Yd_I Yd_c fun v2 S1 => (Yd_if (Yd_I Yd_c fun v4 S3 => (Yd_V Yd_c fun S5 => (Yd_G (Yd_let fun x5_6 => Yd_rec)))) (Yd_V Yd_c fun S7 => Yd_k)))
theorem zd_sayInt_p12 {d : Nat} {x1 : Int} {y0 : Int} {S : ZS} : Yd (fun R => zb_sayInt_p12 R d x1 y0 S) := by
  unfold zb_sayInt_p12
  exact (Yd_let fun x3_1 => (Yd_let fun x5_2 => (Yd_if (Yd_V Yd_c fun S3 => Yd_rec) Yd_rec)))
theorem zd_sayByte_p44 {d : Nat} {x1 : Int} {S : ZS} : Yd (fun R => zb_sayByte_p44 R d x1 S) := by
  unfold zb_sayByte_p44
  exact (Yd_V Yd_c fun S1 => (Yd_V Yd_c fun S2 => Yd_k))
theorem zd_sayByte_p70 {d : Nat} {x1 : Int} {S : ZS} : Yd (fun R => zb_sayByte_p70 R d x1 S) := by
  unfold zb_sayByte_p70
  exact (Yd_V Yd_c fun S1 => (Yd_G (Yd_V Yd_c fun S2 => (Yd_G (Yd_V Yd_c fun S3 => (Yd_G (Yd_V Yd_c fun S4 => Yd_k)))))))
theorem zd_sayName_p2 {d : Nat} {x1 : Int} {x2 : Int} {S : ZS} : Yd (fun R => zb_sayName_p2 R d x1 x2 S) := by
  unfold zb_sayName_p2
  exact (Yd_za fun v1 => (Yd_if (Yd_za fun v2 => (Yd_za fun v3 => (Yd_V Yd_c fun S4 => (Yd_G (Yd_let fun x2_5 => Yd_rec))))) Yd_k))
theorem zd_sayRow_p23 {d : Nat} {x1 : Int} {x3 : Int} {x4 : Int} {x5 : Int} {x6 : Int} {S : ZS} : Yd (fun R => zb_sayRow_p23 R d x1 x3 x4 x5 x6 S) := by
  unfold zb_sayRow_p23
  exact (Yd_if (Yd_if (Yd_let fun x5_1 => (Yd_G (Yd_let fun x6_2 => Yd_rec))) (Yd_I Yd_c fun v4 S3 => (Yd_G (Yd_I Yd_c fun v6 S5 => (Yd_if (Yd_let fun x5_7 => (Yd_let fun x6_8 => Yd_rec)) (Yd_let fun x5_9 => (Yd_let fun x6_10 => Yd_rec))))))) (Yd_if (Yd_V Yd_c fun S11 => (Yd_let fun x6_12 => Yd_rec)) (Yd_V Yd_c fun S13 => (Yd_let fun x6_14 => Yd_rec))))
theorem zd_sayBehind_p19 {d : Nat} {x1 : Int} {x3 : Int} {y0 : Int} {S : ZS} : Yd (fun R => zb_sayBehind_p19 R d x1 x3 y0 S) := by
  unfold zb_sayBehind_p19
  exact (Yd_let fun x4_1 => (Yd_V Yd_c fun S2 => (Yd_if Yd_rec (Yd_V Yd_c fun S3 => Yd_rec))))
theorem zd_isApplied_p25 {d : Nat} {x3 : Int} {S : ZS} : Yd (fun R => zb_isApplied_p25 R d x3 S) := by
  unfold zb_isApplied_p25
  exact (Yd_if Yd_k (Yd_if Yd_k Yd_k))
theorem zd_sayMade_p61 {d : Nat} {x3 : Int} {x5 : Int} {x6 : Int} {S : ZS} : Yd (fun R => zb_sayMade_p61 R d x3 x5 x6 S) := by
  unfold zb_sayMade_p61
  exact (Yd_J Yd_c fun v2 S1 => (Yd_if (Yd_V Yd_c fun S3 => Yd_k) (Yd_I Yd_c fun v5 S4 => (Yd_if (Yd_if Yd_rec (Yd_V Yd_c fun S6 => Yd_rec)) (Yd_V Yd_c fun S7 => Yd_k)))))
theorem zd_sayType_p57 {d : Nat} {x2 : Int} {x3 : Int} {y0 : Int} {S : ZS} : Yd (fun R => zb_sayType_p57 R d x2 x3 y0 S) := by
  unfold zb_sayType_p57
  exact (Yd_let fun x4_1 => (Yd_za fun v2 => (Yd_if (Yd_I Yd_c fun v4 S3 => (Yd_if Yd_rec Yd_rec)) Yd_rec)))
theorem zd_sayVariable_p2 {d : Nat} {x1 : Int} {x2 : Int} {S : ZS} : Yd (fun R => zb_sayVariable_p2 R d x1 x2 S) := by
  unfold zb_sayVariable_p2
  exact (Yd_if (Yd_za fun v1 => (Yd_if Yd_rec (Yd_G (Yd_let fun x2_2 => Yd_rec)))) Yd_rec)
theorem zd_isTuple_p9 {d : Nat} {x1 : Int} {x2 : Int} {x3 : Int} {S : ZS} : Yd (fun R => zb_isTuple_p9 R d x1 x2 x3 S) := by
  unfold zb_isTuple_p9
  exact (Yd_if (Yd_if (Yd_let fun x3_1 => (Yd_let fun x4_2 => Yd_rec)) (Yd_let fun x3_3 => (Yd_let fun x4_4 => Yd_rec))) (Yd_G (Yd_let fun x2_5 => (Yd_za fun v6 => (Yd_let fun x3_7 => Yd_rec)))))
theorem zd_sayRowType_p31 {d : Nat} {x1 : Int} {x2 : Int} {x3 : Int} {x4 : Int} {S : ZS} : Yd (fun R => zb_sayRowType_p31 R d x1 x2 x3 x4 S) := by
  unfold zb_sayRowType_p31
  exact (Yd_if (Yd_V Yd_c fun S1 => Yd_k) (Yd_let fun x5_2 => (Yd_za fun v3 => (Yd_let fun x6_4 => Yd_rec))))
theorem zd_sayMadeType_p42 {d : Nat} {x1 : Int} {x2 : Int} {S : ZS} : Yd (fun R => zb_sayMadeType_p42 R d x1 x2 S) := by
  unfold zb_sayMadeType_p42
  exact (Yd_if Yd_rec (Yd_V Yd_c fun S1 => (Yd_let fun x3_2 => Yd_rec)))
theorem zd_sayMadeType_p99 {d : Nat} {x1 : Int} {S : ZS} : Yd (fun R => zb_sayMadeType_p99 R d x1 S) := by
  unfold zb_sayMadeType_p99
  exact (Yd_za fun v1 => (Yd_za fun v2 => (Yd_V Yd_c fun S3 => Yd_k)))
theorem zd_tellType_p49 {d : Nat} {x2 : Int} {x4 : Int} {S : ZS} : Yd (fun R => zb_tellType_p49 R d x2 x4 S) := by
  unfold zb_tellType_p49
  exact (Yd_if (Yd_zp fun S1 => (Yd_G (Yd_I Yd_c fun v3 S2 => (Yd_V Yd_c fun S4 => Yd_k)))) (Yd_I Yd_c fun v6 S5 => (Yd_zs fun S7 => (Yd_za fun v8 => (Yd_zs fun S9 => (Yd_G (Yd_zp fun S10 => (Yd_za fun v11 => (Yd_let fun x4_12 => Yd_rec)))))))))
theorem zd_sayVars_p26 {d : Nat} {x1 : Int} {y0 : Int} {S : ZS} : Yd (fun R => zb_sayVars_p26 R d x1 y0 S) := by
  unfold zb_sayVars_p26
  exact (Yd_let fun x2_1 => (Yd_if (Yd_let fun x3_2 => Yd_rec) (Yd_V Yd_c fun S3 => (Yd_let fun x3_4 => Yd_rec))))
theorem zd_tellData_p48 {d : Nat} {x2 : Int} {x3 : Int} {S : ZS} : Yd (fun R => zb_tellData_p48 R d x2 x3 S) := by
  unfold zb_tellData_p48
  exact (Yd_za fun v1 => (Yd_za fun v2 => (Yd_G (Yd_if (Yd_za fun v3 => (Yd_if (Yd_V Yd_c fun S4 => (Yd_za fun v5 => (Yd_V Yd_c fun S6 => (Yd_I Yd_c fun v8 S7 => (Yd_if (Yd_G (Yd_let fun x3_9 => Yd_rec)) (Yd_V Yd_c fun S10 => (Yd_za fun v11 => (Yd_I Yd_c fun v13 S12 => (Yd_let fun x4_14 => (Yd_za fun v15 => (Yd_za fun v16 => (Yd_za fun v17 => (Yd_I Yd_c fun v19 S18 => (Yd_za fun v20 => (Yd_V Yd_c fun S21 => (Yd_za fun v22 => (Yd_za fun v23 => (Yd_V Yd_c fun S24 => (Yd_G (Yd_let fun x3_25 => Yd_rec)))))))))))))))))))) (Yd_V Yd_c fun S26 => (Yd_za fun v27 => (Yd_V Yd_c fun S28 => (Yd_I Yd_c fun v30 S29 => (Yd_if (Yd_G (Yd_let fun x3_31 => Yd_rec)) (Yd_V Yd_c fun S32 => (Yd_za fun v33 => (Yd_I Yd_c fun v35 S34 => (Yd_let fun x4_36 => (Yd_za fun v37 => (Yd_za fun v38 => (Yd_za fun v39 => (Yd_I Yd_c fun v41 S40 => (Yd_za fun v42 => (Yd_V Yd_c fun S43 => (Yd_za fun v44 => (Yd_za fun v45 => (Yd_V Yd_c fun S46 => (Yd_G (Yd_let fun x3_47 => Yd_rec)))))))))))))))))))))) Yd_k))))
theorem zd_listed0_p7 {d : Nat} {x2 : Int} {S : ZS} : Yd (fun R => zb_listed0_p7 R d x2 S) := by
  unfold zb_listed0_p7
  exact (Yd_if Yd_k (Yd_za fun v1 => (Yd_I Yd_c fun v3 S2 => (Yd_zs fun S4 => (Yd_G (Yd_zp fun S5 => (Yd_za fun v6 => (Yd_let fun x2_7 => Yd_rec))))))))
theorem zd_letter_p34 {d : Nat} {x1 : Int} {x2 : Int} {S : ZS} : Yd (fun R => zb_letter_p34 R d x1 x2 S) := by
  unfold zb_letter_p34
  exact (Yd_V Yd_c fun S1 => (Yd_if Yd_k (Yd_if (Yd_za fun v2 => Yd_k) Yd_k)))
theorem zd_feed_p76 {d : Nat} {x1 : Int} {x2 : Int} {x3 : Int} {x4 : Int} {x5 : Int} {x6 : Int} {y0 : Int} {S : ZS} : Yd (fun R => zb_feed_p76 R d x1 x2 x3 x4 x5 x6 y0 S) := by
  unfold zb_feed_p76
  exact (Yd_let fun x7_1 => (Yd_zs fun S2 => (Yd_G (Yd_let fun x6_3 => Yd_rec))))
theorem zd_sign0_p151 {d : Nat} {x4 : Int} {S : ZS} : Yd (fun R => zb_sign0_p151 R d x4 S) := by
  unfold zb_sign0_p151
  exact (Yd_if Yd_k (Yd_za fun v1 => (Yd_zs fun S2 => (Yd_G (Yd_zp fun S3 => (Yd_za fun v4 => (Yd_V Yd_c fun S5 => (Yd_za fun v6 => (Yd_let fun x4_7 => Yd_rec)))))))))
theorem zd_sign0_p235 {d : Nat} {x2 : Int} {x3 : Int} {S : ZS} : Yd (fun R => zb_sign0_p235 R d x2 x3 S) := by
  unfold zb_sign0_p235
  exact (Yd_if (Yd_zs fun S1 => (Yd_G (Yd_zp fun S2 => Yd_rec))) Yd_rec)
theorem zd_find_p24 {d : Nat} {x2 : Int} {x3 : Int} {S : ZS} : Yd (fun R => zb_find_p24 R d x2 x3 S) := by
  unfold zb_find_p24
  exact (Yd_za fun v1 => (Yd_if (Yd_za fun v2 => (Yd_if Yd_k (Yd_za fun v3 => (Yd_let fun x4_4 => (Yd_zs fun S5 => (Yd_let fun x3_6 => Yd_rec)))))) Yd_k))
theorem zd_withField_p65 {d : Nat} {x1 : Int} {x2 : Int} {x3 : Int} {x4 : Int} {S : ZS} : Yd (fun R => zb_withField_p65 R d x1 x2 x3 x4 S) := by
  unfold zb_withField_p65
  exact (Yd_za fun v1 => (Yd_I Yd_c fun v3 S2 => (Yd_zs fun S4 => Yd_k)))
theorem zd_read_p161 {d : Nat} {x1 : Int} {S : ZS} : Yd (fun R => zb_read_p161 R d x1 S) := by
  unfold zb_read_p161
  exact (Yd_I Yd_c fun v2 S1 => (Yd_if (Yd_V Yd_c fun S3 => Yd_k) (Yd_V Yd_c fun S4 => Yd_k)))
theorem zd_gaps_p113 {d : Nat} {x1 : Int} {x2 : Int} {x3 : Int} {S : ZS} : Yd (fun R => zb_gaps_p113 R d x1 x2 x3 S) := by
  unfold zb_gaps_p113
  exact (Yd_if (Yd_I Yd_c fun v2 S1 => (Yd_if (Yd_G (Yd_let fun x2_3 => (Yd_G (Yd_zp fun S4 => Yd_rec)))) Yd_rec)) Yd_rec)
theorem zd_nameAt_text_p6 {d : Nat} {x2 : Int} {x3 : Int} {x4 : Int} {x5 : Int} {S : ZS} : Yd (fun R => zb_nameAt_text_p6 R d x2 x3 x4 x5 S) := by
  unfold zb_nameAt_text_p6
  exact (Yd_if (Yd_za fun v1 => (Yd_let fun x4_2 => (Yd_G (Yd_let fun x5_3 => Yd_rec)))) (Yd_za fun v4 => (Yd_let fun x5_5 => Yd_rec)))
theorem zd_readVariable_p49 {d : Nat}  {S : ZS} : Yd (fun R => zb_readVariable_p49 R d  S) := by
  unfold zb_readVariable_p49
  exact (Yd_I Yd_c fun v2 S1 => (Yd_I Yd_c fun v4 S3 => (Yd_if (Yd_G (Yd_if (Yd_I Yd_c fun v6 S5 => (Yd_zp fun S7 => (Yd_zp fun S8 => Yd_k))) Yd_k)) (Yd_G (Yd_zp fun S9 => Yd_rec)))))
theorem zd_readInt_p31 {d : Nat} {x1 : Int} {x2 : Int} {S : ZS} : Yd (fun R => zb_readInt_p31 R d x1 x2 S) := by
  unfold zb_readInt_p31
  exact (Yd_I Yd_c fun v2 S1 => (Yd_I Yd_c fun v4 S3 => (Yd_if (Yd_if Yd_rec Yd_rec) (Yd_if (Yd_I Yd_c fun v6 S5 => (Yd_G Yd_rec)) Yd_rec))))
theorem zd_readString_p31 {d : Nat} {x1 : Int} {S : ZS} : Yd (fun R => zb_readString_p31 R d x1 S) := by
  unfold zb_readString_p31
  exact (Yd_I Yd_c fun v2 S1 => (Yd_if (Yd_G (Yd_zp fun S3 => (Yd_G (Yd_let fun x2_4 => (Yd_if (Yd_if Yd_rec Yd_k) (Yd_if Yd_rec Yd_k)))))) (Yd_I Yd_c fun v6 S5 => (Yd_let fun x2_7 => (Yd_if (Yd_G (Yd_zp fun S8 => (Yd_V Yd_c fun S9 => Yd_rec))) (Yd_if Yd_k (Yd_if (Yd_V Yd_c fun S10 => (Yd_G (Yd_zp fun S11 => Yd_rec))) Yd_k)))))))
theorem zd_readEscape_p53 {d : Nat} {y0 : Int} {S : ZS} : Yd (fun R => zb_readEscape_p53 R d y0 S) := by
  unfold zb_readEscape_p53
  exact (Yd_V Yd_c fun S1 => (Yd_G (Yd_zp fun S2 => Yd_k)))
theorem zd_readEscape_p97 {d : Nat} {x2 : Int} {x3 : Int} {y0 : Int} {S : ZS} : Yd (fun R => zb_readEscape_p97 R d x2 x3 y0 S) := by
  unfold zb_readEscape_p97
  exact (Yd_let fun x4_1 => (Yd_if Yd_k (Yd_if (Yd_G Yd_rec) (Yd_if (Yd_G Yd_rec) (Yd_G Yd_rec)))))
theorem zd_decs_p57 {d : Nat} {x1 : Int} {x2 : Int} {x3 : Int} {x4 : Int} {S : ZS} : Yd (fun R => zb_decs_p57 R d x1 x2 x3 x4 S) := by
  unfold zb_decs_p57
  exact (Yd_if Yd_rec (Yd_I Yd_c fun v2 S1 => (Yd_zs fun S3 => (Yd_za fun v4 => (Yd_let fun x3_5 => Yd_rec)))))
theorem zd_local_p48 {d : Nat} {x1 : Int} {x2 : Int} {x3 : Int} {y0 : Int} {S : ZS} : Yd (fun R => zb_local_p48 R d x1 x2 x3 y0 S) := by
  unfold zb_local_p48
  exact (Yd_let fun x4_1 => (Yd_V Yd_c fun S2 => (Yd_zp fun S3 => (Yd_I Yd_c fun v5 S4 => Yd_k))))
theorem zd_binds_p73 {d : Nat} {x1 : Int} {x6 : Int} {S : ZS} : Yd (fun R => zb_binds_p73 R d x1 x6 S) := by
  unfold zb_binds_p73
  exact (Yd_let fun x2_1 => (Yd_I Yd_c fun v3 S2 => (Yd_let fun x3_4 => Yd_rec)))
theorem zd_pattern_p28 {d : Nat} {x1 : Int} {x2 : Int} {x3 : Int} {x4 : Int} {x5 : Int} {S : ZS} : Yd (fun R => zb_pattern_p28 R d x1 x2 x3 x4 x5 S) := by
  unfold zb_pattern_p28
  exact (Yd_I Yd_c fun v2 S1 => (Yd_if (Yd_zp fun S3 => (Yd_if Yd_k (Yd_if (Yd_I Yd_c fun v5 S4 => (Yd_if Yd_k (Yd_V Yd_c fun S6 => (Yd_I Yd_c fun v8 S7 => (Yd_let fun x6_9 => (Yd_zp fun S10 => (Yd_za fun v11 => (Yd_za fun v12 => (Yd_if (Yd_za fun v13 => (Yd_I Yd_c fun v15 S14 => Yd_k)) (Yd_za fun v16 => (Yd_I Yd_c fun v18 S17 => Yd_k))))))))))) Yd_k))) (Yd_I Yd_c fun v20 S19 => (Yd_let fun x3_21 => (Yd_G (Yd_let fun x4_22 => (Yd_za fun v23 => (Yd_I Yd_c fun v25 S24 => (Yd_let fun x1_26 => Yd_rec)))))))))
theorem zd_infixed_p239 {d : Nat} {x1 : Int} {x2 : Int} {S : ZS} : Yd (fun R => zb_infixed_p239 R d x1 x2 S) := by
  unfold zb_infixed_p239
  exact (Yd_if (Yd_G (Yd_zp fun S1 => (Yd_za fun v2 => Yd_k))) (Yd_V Yd_c fun S3 => Yd_rec))
theorem zd_infixed_p30 {d : Nat} {x1 : Int} {x2 : Int} {S : ZS} : Yd (fun R => zb_infixed_p30 R d x1 x2 S) := by
  unfold zb_infixed_p30
  exact (Yd_I Yd_c fun v2 S1 => (Yd_let fun x3_3 => (Yd_if (Yd_let fun x4_4 => Yd_rec) (Yd_let fun x4_5 => Yd_rec))))
theorem zd_patternRow_p87 {d : Nat} {x1 : Int} {x2 : Int} {x5 : Int} {S : ZS} : Yd (fun R => zb_patternRow_p87 R d x1 x2 x5 S) := by
  unfold zb_patternRow_p87
  exact (Yd_V Yd_c fun S1 => (Yd_if (Yd_I Yd_c fun v3 S2 => Yd_k) (Yd_I Yd_c fun v5 S4 => Yd_k)))
theorem zd_patternRow_p73 {d : Nat} {x1 : Int} {x2 : Int} {x5 : Int} {x6 : Int} {S : ZS} : Yd (fun R => zb_patternRow_p73 R d x1 x2 x5 x6 S) := by
  unfold zb_patternRow_p73
  exact (Yd_let fun x3_1 => (Yd_I Yd_c fun v3 S2 => (Yd_let fun x4_4 => Yd_rec)))
theorem zd_patternField_p75 {d : Nat} {x1 : Int} {x3 : Int} {x4 : Int} {S : ZS} : Yd (fun R => zb_patternField_p75 R d x1 x3 x4 S) := by
  unfold zb_patternField_p75
  exact (Yd_I Yd_c fun v2 S1 => (Yd_if (Yd_I Yd_c fun v4 S3 => (Yd_let fun x5_5 => (Yd_if Yd_rec (Yd_I Yd_c fun v7 S6 => (Yd_let fun x5_8 => Yd_rec))))) (Yd_I Yd_c fun v10 S9 => (Yd_I Yd_c fun v12 S11 => (Yd_let fun x5_13 => Yd_rec)))))
theorem zd_tupleType_p131 {d : Nat} {x1 : Int} {x2 : Int} {S : ZS} : Yd (fun R => zb_tupleType_p131 R d x1 x2 S) := by
  unfold zb_tupleType_p131
  exact (Yd_za fun v1 => (Yd_I Yd_c fun v3 S2 => Yd_k))
theorem zd_atomicType_p117 {d : Nat} {x1 : Int} {x2 : Int} {x3 : Int} {x4 : Int} {S : ZS} : Yd (fun R => zb_atomicType_p117 R d x1 x2 x3 x4 S) := by
  unfold zb_atomicType_p117
  exact (Yd_I Yd_c fun v2 S1 => (Yd_if (Yd_V Yd_c fun S3 => (Yd_if Yd_k (Yd_if (Yd_if Yd_k (Yd_I Yd_c fun v5 S4 => (Yd_let fun x5_6 => (Yd_V Yd_c fun S7 => Yd_k)))) Yd_k))) (Yd_let fun x4_8 => (Yd_I Yd_c fun v10 S9 => (Yd_zs fun S11 => (Yd_za fun v12 => (Yd_let fun x3_13 => Yd_rec)))))))
theorem zd_typeRow_p80 {d : Nat} {x1 : Int} {x2 : Int} {x7 : Int} {S : ZS} : Yd (fun R => zb_typeRow_p80 R d x1 x2 x7 S) := by
  unfold zb_typeRow_p80
  exact (Yd_let fun x3_1 => (Yd_I Yd_c fun v3 S2 => (Yd_let fun x4_4 => Yd_rec)))
theorem zd_patternHeld_p40 {d : Nat} {x1 : Int} {x2 : Int} {x3 : Int} {x4 : Int} {x5 : Int} {x6 : Int} {x7 : Int} {S : ZS} : Yd (fun R => zb_patternHeld_p40 R d x1 x2 x3 x4 x5 x6 x7 S) := by
  unfold zb_patternHeld_p40
  exact (Yd_if (Yd_V Yd_c fun S1 => (Yd_if (Yd_if (Yd_zs fun S2 => Yd_k) (Yd_if (Yd_I Yd_c fun v4 S3 => Yd_k) (Yd_I Yd_c fun v6 S5 => Yd_k))) (Yd_I Yd_c fun v8 S7 => Yd_k))) (Yd_I Yd_c fun v10 S9 => (Yd_let fun x8_11 => (Yd_if (Yd_let fun x4_12 => Yd_rec) (Yd_zs fun S13 => Yd_rec)))))
theorem zd_expressionRow_p84 {d : Nat} {x1 : Int} {x2 : Int} {x7 : Int} {S : ZS} : Yd (fun R => zb_expressionRow_p84 R d x1 x2 x7 S) := by
  unfold zb_expressionRow_p84
  exact (Yd_let fun x3_1 => (Yd_I Yd_c fun v3 S2 => (Yd_let fun x4_4 => Yd_rec)))
theorem zd_orelse_p36 {d : Nat} {x1 : Int} {y0 : Int} {S : ZS} : Yd (fun R => zb_orelse_p36 R d x1 y0 S) := by
  unfold zb_orelse_p36
  exact (Yd_let fun x2_1 => (Yd_G (Yd_zp fun S2 => (Yd_za fun v3 => (Yd_I Yd_c fun v5 S4 => (Yd_let fun x1_6 => Yd_rec))))))
theorem zd_andalso_p35 {d : Nat} {x1 : Int} {y0 : Int} {S : ZS} : Yd (fun R => zb_andalso_p35 R d x1 y0 S) := by
  unfold zb_andalso_p35
  exact (Yd_let fun x2_1 => (Yd_G (Yd_zp fun S2 => (Yd_za fun v3 => (Yd_I Yd_c fun v5 S4 => (Yd_let fun x1_6 => Yd_rec))))))
theorem zd_functions_p66 {d : Nat} {x1 : Int} {x5 : Int} {S : ZS} : Yd (fun R => zb_functions_p66 R d x1 x5 S) := by
  unfold zb_functions_p66
  exact (Yd_let fun x2_1 => (Yd_I Yd_c fun v3 S2 => (Yd_let fun x3_4 => Yd_rec)))
theorem zd_clause_p67 {d : Nat} {x1 : Int} {y0 : Int} {S : ZS} : Yd (fun R => zb_clause_p67 R d x1 y0 S) := by
  unfold zb_clause_p67
  exact (Yd_let fun x3_1 => (Yd_if (Yd_I Yd_c fun v3 S2 => (Yd_let fun x7_4 => (Yd_I Yd_c fun v6 S5 => (Yd_if Yd_k (Yd_I Yd_c fun v8 S7 => (Yd_if (Yd_let fun x5_9 => (Yd_I Yd_c fun v11 S10 => (Yd_let fun x4_12 => (Yd_I Yd_c fun v14 S13 => (Yd_I Yd_c fun v16 S15 => (Yd_let fun x6_17 => Yd_rec)))))) Yd_k)))))) (Yd_I Yd_c fun v19 S18 => (Yd_if Yd_rec Yd_rec))))
theorem zd_datas_p73 {d : Nat} {x1 : Int} {x7 : Int} {S : ZS} : Yd (fun R => zb_datas_p73 R d x1 x7 S) := by
  unfold zb_datas_p73
  exact (Yd_let fun x2_1 => (Yd_I Yd_c fun v3 S2 => (Yd_let fun x3_4 => Yd_rec)))
theorem zd_constructors_p40 {d : Nat} {x1 : Int} {x2 : Int} {x5 : Int} {y0 : Int} {S : ZS} : Yd (fun R => zb_constructors_p40 R d x1 x2 x5 y0 S) := by
  unfold zb_constructors_p40
  exact (Yd_let fun x6_1 => (Yd_I Yd_c fun v3 S2 => (Yd_if Yd_rec (Yd_I Yd_c fun v5 S4 => Yd_rec))))
theorem zd_exception_p68 {d : Nat} {x1 : Int} {x3 : Int} {x4 : Int} {x6 : Int} {y0 : Int} {S : ZS} : Yd (fun R => zb_exception_p68 R d x1 x3 x4 x6 y0 S) := by
  unfold zb_exception_p68
  exact (Yd_let fun x7_1 => (Yd_I Yd_c fun v3 S2 => Yd_k))
theorem zd_infixes_p63 {d : Nat} {x1 : Int} {x2 : Int} {x3 : Int} {S : ZS} : Yd (fun R => zb_infixes_p63 R d x1 x2 x3 S) := by
  unfold zb_infixes_p63
  exact (Yd_if Yd_rec Yd_k)
theorem zd_judgedVal_p115 {d : Nat} {x2 : Int} {x3 : Int} {x4 : Int} {x5 : Int} {x6 : Int} {x10 : Int} {S : ZS} : Yd (fun R => zb_judgedVal_p115 R d x2 x3 x4 x5 x6 x10 S) := by
  unfold zb_judgedVal_p115
  exact (Yd_if (Yd_za fun v1 => (Yd_I Yd_c fun v3 S2 => (Yd_zs fun S4 => (Yd_G (Yd_let fun x10_5 => Yd_rec))))) (Yd_V Yd_c fun S6 => (Yd_za fun v7 => (Yd_let fun x6_8 => Yd_rec))))
theorem zd_enterVariables_p37 {d : Nat} {x2 : Int} {x3 : Int} {x4 : Int} {x5 : Int} {S : ZS} : Yd (fun R => zb_enterVariables_p37 R d x2 x3 x4 x5 S) := by
  unfold zb_enterVariables_p37
  exact (Yd_if (Yd_if (Yd_za fun v1 => (Yd_za fun v2 => (Yd_if (Yd_let fun x4_3 => (Yd_G (Yd_let fun x5_4 => Yd_rec))) (Yd_let fun x4_5 => (Yd_G (Yd_let fun x5_6 => Yd_rec)))))) (Yd_let fun x4_7 => (Yd_G (Yd_let fun x5_8 => Yd_rec)))) (Yd_if (Yd_za fun v9 => (Yd_if (Yd_G (Yd_let fun x3_10 => Yd_rec)) (Yd_za fun v11 => (Yd_zs fun S12 => (Yd_za fun v13 => (Yd_I Yd_c fun v15 S14 => (Yd_zs fun S16 => (Yd_za fun v17 => (Yd_zs fun S18 => (Yd_G (Yd_zp fun S19 => (Yd_G (Yd_let fun x3_20 => Yd_rec))))))))))))) (Yd_G (Yd_let fun x3_21 => Yd_rec))))
theorem zd_look_p48 {d : Nat} {x2 : Int} {x3 : Int} {S : ZS} : Yd (fun R => zb_look_p48 R d x2 x3 S) := by
  unfold zb_look_p48
  exact (Yd_za fun v1 => (Yd_if (Yd_za fun v2 => (Yd_V Yd_c fun S3 => Yd_k)) (Yd_if (Yd_za fun v5 => (Yd_V Yd_c fun S6 => (Yd_za fun v7 => (Yd_V Yd_c fun S8 => Yd_k)))) (Yd_if (Yd_za fun v10 => (Yd_V Yd_c fun S11 => (Yd_za fun v12 => (Yd_V Yd_c fun S13 => Yd_k)))) (Yd_if (Yd_za fun v15 => (Yd_V Yd_c fun S16 => Yd_k)) (Yd_if (Yd_za fun v18 => (Yd_V Yd_c fun S19 => (Yd_za fun v20 => (Yd_V Yd_c fun S21 => (Yd_za fun v22 => (Yd_V Yd_c fun S23 => Yd_k)))))) (Yd_if (Yd_za fun v25 => (Yd_V Yd_c fun S26 => (Yd_za fun v27 => (Yd_V Yd_c fun S28 => Yd_k)))) (Yd_if (Yd_za fun v30 => (Yd_V Yd_c fun S31 => (Yd_za fun v32 => (Yd_V Yd_c fun S33 => Yd_k)))) (Yd_if (Yd_za fun v35 => (Yd_V Yd_c fun S36 => Yd_k)) (Yd_if (Yd_za fun v38 => (Yd_V Yd_c fun S39 => (Yd_za fun v40 => (Yd_V Yd_c fun S41 => Yd_k)))) (Yd_if (Yd_za fun v43 => (Yd_V Yd_c fun S44 => (Yd_za fun v45 => (Yd_V Yd_c fun S46 => Yd_k)))) (Yd_if (Yd_za fun v48 => (Yd_V Yd_c fun S49 => (Yd_za fun v50 => (Yd_V Yd_c fun S51 => Yd_k)))) (Yd_if (Yd_za fun v53 => (Yd_V Yd_c fun S54 => (Yd_za fun v55 => (Yd_V Yd_c fun S56 => Yd_k)))) (Yd_if (Yd_za fun v58 => (Yd_V Yd_c fun S59 => Yd_k)) (Yd_if (Yd_za fun v61 => (Yd_V Yd_c fun S62 => (Yd_za fun v63 => (Yd_V Yd_c fun S64 => Yd_k)))) (Yd_if (Yd_za fun v66 => (Yd_V Yd_c fun S67 => Yd_k)) (Yd_if (Yd_za fun v69 => (Yd_V Yd_c fun S70 => Yd_k)) (Yd_if Yd_k (Yd_if Yd_k (Yd_if Yd_k (Yd_if Yd_k (Yd_if Yd_k (Yd_if Yd_k (Yd_if Yd_k (Yd_if Yd_k (Yd_if Yd_k (Yd_if Yd_k (Yd_if Yd_k (Yd_if Yd_k (Yd_if Yd_k (Yd_if Yd_k (Yd_if (Yd_za fun v86 => (Yd_V Yd_c fun S87 => Yd_k)) (Yd_if (Yd_za fun v89 => (Yd_V Yd_c fun S90 => Yd_k)) (Yd_if (Yd_za fun v92 => (Yd_V Yd_c fun S93 => (Yd_za fun v94 => (Yd_if Yd_k (Yd_za fun v95 => (Yd_V Yd_c fun S96 => Yd_k)))))) (Yd_if (Yd_za fun v98 => (Yd_V Yd_c fun S99 => (Yd_za fun v100 => (Yd_V Yd_c fun S101 => Yd_k)))) (Yd_if (Yd_za fun v103 => (Yd_V Yd_c fun S104 => Yd_k)) (Yd_if (Yd_za fun v106 => (Yd_V Yd_c fun S107 => (Yd_za fun v108 => (Yd_V Yd_c fun S109 => Yd_k)))) (Yd_if (Yd_za fun v111 => (Yd_V Yd_c fun S112 => Yd_k)) (Yd_if Yd_k (Yd_if Yd_k (Yd_if Yd_k (Yd_if Yd_k (Yd_if Yd_k (Yd_if Yd_k (Yd_if Yd_k (Yd_if Yd_k (Yd_if (Yd_V Yd_c fun S122 => Yd_k) (Yd_if (Yd_za fun v124 => (Yd_V Yd_c fun S125 => Yd_k)) (Yd_if (Yd_za fun v127 => (Yd_V Yd_c fun S128 => Yd_k)) (Yd_if (Yd_za fun v130 => (Yd_V Yd_c fun S131 => (Yd_za fun v132 => (Yd_V Yd_c fun S133 => Yd_k)))) (Yd_if Yd_k (Yd_if Yd_k (Yd_if Yd_k (Yd_if Yd_k (Yd_if Yd_k (Yd_if Yd_k (Yd_if (Yd_za fun v141 => (Yd_V Yd_c fun S142 => Yd_k)) (Yd_if (Yd_za fun v144 => (Yd_V Yd_c fun S145 => (Yd_za fun v146 => (Yd_V Yd_c fun S147 => Yd_k)))) (Yd_if Yd_k (Yd_if Yd_k (Yd_if Yd_k (Yd_if Yd_k (Yd_if Yd_k (Yd_if Yd_k (Yd_if Yd_k (Yd_if Yd_k (Yd_if (Yd_za fun v157 => (Yd_V Yd_c fun S158 => Yd_k)) (Yd_if (Yd_za fun v160 => (Yd_V Yd_c fun S161 => Yd_k)) (Yd_if (Yd_za fun v163 => (Yd_V Yd_c fun S164 => Yd_k)) (Yd_if Yd_k (Yd_if Yd_k (Yd_if Yd_k (Yd_if Yd_k (Yd_if (Yd_za fun v170 => (Yd_V Yd_c fun S171 => (Yd_za fun v172 => (Yd_V Yd_c fun S173 => Yd_k)))) (Yd_if (Yd_za fun v175 => (Yd_V Yd_c fun S176 => (Yd_za fun v177 => (Yd_V Yd_c fun S178 => Yd_k)))) (Yd_if (Yd_za fun v180 => (Yd_V Yd_c fun S181 => Yd_k)) (Yd_if (Yd_za fun v183 => (Yd_V Yd_c fun S184 => (Yd_za fun v185 => (Yd_V Yd_c fun S186 => (Yd_za fun v187 => (Yd_za fun v188 => (Yd_if Yd_k (Yd_za fun v189 => (Yd_za fun v190 => (Yd_V Yd_c fun S191 => Yd_k)))))))))) Yd_k)))))))))))))))))))))))))))))))))))))))))))))))))))))))))))))))))))))))))))))
theorem zd_found_p31 {d : Nat} {x1 : Int} {x2 : Int} {x3 : Int} {S : ZS} : Yd (fun R => zb_found_p31 R d x1 x2 x3 S) := by
  unfold zb_found_p31
  exact (Yd_if (Yd_za fun v1 => (Yd_zs fun S2 => (Yd_za fun v3 => (Yd_zs fun S4 => (Yd_zs fun S5 => (Yd_G (Yd_zp fun S6 => Yd_rec))))))) Yd_rec)
theorem zd_patternName_p81 {d : Nat} {x1 : Int} {x2 : Int} {x3 : Int} {x4 : Int} {S : ZS} : Yd (fun R => zb_patternName_p81 R d x1 x2 x3 x4 S) := by
  unfold zb_patternName_p81
  exact (Yd_if (Yd_za fun v1 => (Yd_I Yd_c fun v3 S2 => (Yd_let fun x5_4 => (Yd_zs fun S5 => (Yd_za fun v6 => (Yd_zs fun S7 => (Yd_za fun v8 => Yd_k))))))) (Yd_V Yd_c fun S9 => (Yd_za fun v10 => (Yd_I Yd_c fun v12 S11 => Yd_k))))
theorem zd_patternName_p68 {d : Nat} {x1 : Int} {S : ZS} : Yd (fun R => zb_patternName_p68 R d x1 S) := by
  unfold zb_patternName_p68
  exact (Yd_za fun v1 => Yd_k)
theorem zd_readSign_p109 {d : Nat} {x3 : Int} {y0 : Int} {y1 : Int} {y2 : Int} {y3 : Int} {y4 : Int} {y6 : Int} {S : ZS} : Yd (fun R => zb_readSign_p109 R d x3 y0 y1 y2 y3 y4 y6 S) := by
  unfold zb_readSign_p109
  exact (Yd_I Yd_c fun v2 S1 => (Yd_zs fun S3 => (Yd_za fun v4 => Yd_k)))
theorem zd_readSign_p153 {d : Nat} {x1 : Int} {x2 : Int} {x3 : Int} {y0 : Int} {S : ZS} : Yd (fun R => zb_readSign_p153 R d x1 x2 x3 y0 S) := by
  unfold zb_readSign_p153
  exact (Yd_let fun x4_1 => (Yd_let fun x5_2 => (Yd_let fun x6_3 => (Yd_let fun x7_4 => Yd_rec))))
theorem zd_copied_p62 {d : Nat} {x1 : Int} {x2 : Int} {S : ZS} : Yd (fun R => zb_copied_p62 R d x1 x2 S) := by
  unfold zb_copied_p62
  exact (Yd_if (Yd_let fun x3_1 => (Yd_let fun x4_2 => (Yd_za fun v3 => (Yd_let fun x5_4 => Yd_rec)))) Yd_k)
theorem zd_copied_p51 {d : Nat} {x1 : Int} {x3 : Int} {y0 : Int} {S : ZS} : Yd (fun R => zb_copied_p51 R d x1 x3 y0 S) := by
  unfold zb_copied_p51
  exact (Yd_let fun x2_1 => (Yd_za fun v2 => (Yd_let fun x3_3 => Yd_rec)))
theorem zd_joined_p73 {d : Nat} {x1 : Int} {x3 : Int} {S : ZS} : Yd (fun R => zb_joined_p73 R d x1 x3 S) := by
  unfold zb_joined_p73
  exact (Yd_if Yd_k (Yd_I Yd_c fun v2 S1 => (Yd_I Yd_c fun v4 S3 => (Yd_if (Yd_I Yd_c fun v6 S5 => (Yd_if Yd_k Yd_k)) Yd_k))))
theorem zd_merge_p69 {d : Nat} {x1 : Int} {x2 : Int} {S : ZS} : Yd (fun R => zb_merge_p69 R d x1 x2 S) := by
  unfold zb_merge_p69
  exact (Yd_za fun v1 => (Yd_if Yd_rec Yd_rec))
theorem zd_mergeRows_p45 {d : Nat} {x1 : Int} {x2 : Int} {x3 : Int} {x4 : Int} {x5 : Int} {S : ZS} : Yd (fun R => zb_mergeRows_p45 R d x1 x2 x3 x4 x5 S) := by
  unfold zb_mergeRows_p45
  exact (Yd_if (Yd_za fun v1 => (Yd_let fun x5_2 => Yd_rec)) (Yd_if (Yd_za fun v3 => (Yd_za fun v4 => (Yd_I Yd_c fun v6 S5 => (Yd_if Yd_k (Yd_za fun v7 => (Yd_let fun x5_8 => Yd_rec)))))) (Yd_za fun v9 => (Yd_let fun x5_10 => Yd_rec))))
theorem zd_allFields_p28 {d : Nat} {x1 : Int} {x2 : Int} {x3 : Int} {y0 : Int} {S : ZS} : Yd (fun R => zb_allFields_p28 R d x1 x2 x3 y0 S) := by
  unfold zb_allFields_p28
  exact (Yd_let fun x4_1 => (Yd_let fun x5_2 => (Yd_let fun x6_3 => (Yd_if (Yd_let fun x7_4 => Yd_rec) (Yd_let fun x7_5 => Yd_rec)))))
theorem zd_isEndless_p67 {d : Nat} {x2 : Int} {S : ZS} : Yd (fun R => zb_isEndless_p67 R d x2 S) := by
  unfold zb_isEndless_p67
  exact (Yd_if Yd_k (Yd_za fun v1 => (Yd_let fun x3_2 => (Yd_if (Yd_G (Yd_let fun x2_3 => (Yd_za fun v4 => (Yd_G (Yd_zs fun S5 => Yd_rec))))) (Yd_za fun v6 => (Yd_zs fun S7 => (Yd_za fun v8 => (Yd_I Yd_c fun v10 S9 => (Yd_let fun x4_11 => (Yd_za fun v12 => (Yd_if Yd_k (Yd_za fun v13 => (Yd_G (Yd_if Yd_rec (Yd_za fun v14 => (Yd_if Yd_rec (Yd_za fun v15 => (Yd_if Yd_rec Yd_rec))))))))))))))))))
theorem zd_admit_p152 {d : Nat} {x2 : Int} {S : ZS} : Yd (fun R => zb_admit_p152 R d x2 S) := by
  unfold zb_admit_p152
  exact (Yd_if Yd_rec (Yd_za fun v1 => (Yd_V Yd_c fun S2 => (Yd_za fun v3 => (Yd_let fun x2_4 => Yd_rec)))))
theorem zd_patternParts_p120 {d : Nat} {x1 : Int} {y0 : Int} {y1 : Int} {y2 : Int} {y3 : Int} {S : ZS} : Yd (fun R => zb_patternParts_p120 R d x1 y0 y1 y2 y3 S) := by
  unfold zb_patternParts_p120
  exact (Yd_za fun v1 => (Yd_if (Yd_za fun v2 => (Yd_I Yd_c fun v4 S3 => Yd_k)) (Yd_I Yd_c fun v6 S5 => Yd_k)))
theorem zd_toldVariable_p24 {d : Nat} {x1 : Int} {x2 : Int} {y0 : Int} {y1 : Int} {S : ZS} : Yd (fun R => zb_toldVariable_p24 R d x1 x2 y0 y1 S) := by
  unfold zb_toldVariable_p24
  exact (Yd_if Yd_rec (Yd_if Yd_rec (Yd_za fun v1 => (Yd_za fun v2 => (Yd_if (Yd_za fun v3 => Yd_k) (Yd_G (Yd_let fun x2_4 => Yd_rec)))))))
theorem zd_toldName_p86 {d : Nat} {x2 : Int} {x4 : Int} {S : ZS} : Yd (fun R => zb_toldName_p86 R d x2 x4 S) := by
  unfold zb_toldName_p86
  exact (Yd_if Yd_k (Yd_G (Yd_zp fun S1 => (Yd_za fun v2 => (Yd_I Yd_c fun v4 S3 => (Yd_let fun x4_5 => Yd_rec))))))
theorem zd_toldOne_p40 {d : Nat} {x1 : Int} {x2 : Int} {x3 : Int} {x4 : Int} {x5 : Int} {x6 : Int} {y0 : Int} {y1 : Int} {S : ZS} : Yd (fun R => zb_toldOne_p40 R d x1 x2 x3 x4 x5 x6 y0 y1 S) := by
  unfold zb_toldOne_p40
  exact (Yd_I Yd_c fun v2 S1 => (Yd_let fun x7_3 => (Yd_if (Yd_let fun x3_4 => Yd_rec) (Yd_zs fun S5 => Yd_rec))))
theorem zd_patternAs_p114 {d : Nat} {x1 : Int} {x4 : Int} {x5 : Int} {S : ZS} : Yd (fun R => zb_patternAs_p114 R d x1 x4 x5 S) := by
  unfold zb_patternAs_p114
  exact (Yd_za fun v1 => (Yd_I Yd_c fun v3 S2 => (Yd_let fun x6_4 => (Yd_za fun v5 => (Yd_za fun v6 => (Yd_V Yd_c fun S7 => (Yd_zs fun S8 => Yd_k)))))))
theorem zd_judgedApplication_p40 {d : Nat} {x1 : Int} {x4 : Int} {x5 : Int} {S : ZS} : Yd (fun R => zb_judgedApplication_p40 R d x1 x4 x5 S) := by
  unfold zb_judgedApplication_p40
  exact (Yd_if Yd_k (Yd_let fun x6_1 => (Yd_let fun x7_2 => Yd_rec)))
theorem zd_rules_p115 {d : Nat} {x4 : Int} {x5 : Int} {x6 : Int} {x7 : Int} {x9 : Int} {x10 : Int} {x11 : Int} {x12 : Int} {x13 : Int} {x14 : Int} {S : ZS} : Yd (fun R => zb_rules_p115 R d x4 x5 x6 x7 x9 x10 x11 x12 x13 x14 S) := by
  unfold zb_rules_p115
  exact (Yd_V Yd_c fun S1 => (Yd_zp fun S2 => (Yd_za fun v3 => (Yd_I Yd_c fun v5 S4 => (Yd_let fun x16_6 => (Yd_if (Yd_let fun x6_7 => Yd_rec) (Yd_za fun v8 => (Yd_za fun v9 => (Yd_V Yd_c fun S10 => Yd_rec)))))))))
theorem zd_does_p142 {d : Nat} {x3 : Int} {y0 : Int} {S : ZS} : Yd (fun R => zb_does_p142 R d x3 y0 S) := by
  unfold zb_does_p142
  exact (Yd_let fun x2_1 => (Yd_za fun v2 => (Yd_let fun x3_3 => Yd_rec)))
theorem zd_does_p189 {d : Nat} {x4 : Int} {y0 : Int} {S : ZS} : Yd (fun R => zb_does_p189 R d x4 y0 S) := by
  unfold zb_does_p189
  exact (Yd_let fun x3_1 => (Yd_za fun v2 => (Yd_let fun x4_3 => Yd_rec)))
theorem zd_through_p60 {d : Nat} {x2 : Int} {x3 : Int} {x4 : Int} {x5 : Int} {S : ZS} : Yd (fun R => zb_through_p60 R d x2 x3 x4 x5 S) := by
  unfold zb_through_p60
  exact (Yd_if (Yd_za fun v1 => (Yd_za fun v2 => (Yd_if (Yd_G (Yd_let fun x5_3 => Yd_rec)) (Yd_if Yd_rec (Yd_za fun v4 => (Yd_if Yd_rec (Yd_G (Yd_let fun x5_5 => Yd_rec)))))))) (Yd_if (Yd_let fun x5_6 => Yd_rec) Yd_k))
theorem zd_sizeOf_p138 {d : Nat} {x2 : Int} {x3 : Int} {x4 : Int} {x6 : Int} {x7 : Int} {S : ZS} : Yd (fun R => zb_sizeOf_p138 R d x2 x3 x4 x6 x7 S) := by
  unfold zb_sizeOf_p138
  exact (Yd_if (Yd_zs fun S1 => Yd_rec) (Yd_za fun v2 => (Yd_I Yd_c fun v4 S3 => (Yd_za fun v5 => (Yd_G (Yd_I Yd_c fun v7 S6 => (Yd_let fun x6_8 => (Yd_za fun v9 => (Yd_let fun x7_10 => Yd_rec)))))))))
theorem zd_markRim_p25 {d : Nat} {x2 : Int} {x3 : Int} {S : ZS} : Yd (fun R => zb_markRim_p25 R d x2 x3 S) := by
  unfold zb_markRim_p25
  exact (Yd_if (Yd_let fun x3_1 => Yd_rec) (Yd_if (Yd_let fun x3_2 => Yd_rec) (Yd_za fun v3 => (Yd_if (Yd_za fun v4 => (Yd_let fun x3_5 => Yd_rec)) (Yd_za fun v6 => (Yd_V Yd_c fun S7 => (Yd_za fun v8 => (Yd_let fun x3_9 => Yd_rec))))))))
theorem zd_spreadRim_p89 {d : Nat} {x2 : Int} {x4 : Int} {x6 : Int} {S : ZS} : Yd (fun R => zb_spreadRim_p89 R d x2 x4 x6 S) := by
  unfold zb_spreadRim_p89
  exact (Yd_if Yd_rec (Yd_za fun v1 => (Yd_I Yd_c fun v3 S2 => (Yd_let fun x7_4 => (Yd_za fun v5 => (Yd_if (Yd_za fun v6 => (Yd_zs fun S7 => (Yd_zs fun S8 => (Yd_G (Yd_let fun x4_9 => (Yd_za fun v10 => (Yd_let fun x6_11 => Yd_rec))))))) (Yd_za fun v12 => (Yd_let fun x6_13 => Yd_rec))))))))
theorem zd_generalise_p94 {d : Nat} {x3 : Int} {x4 : Int} {S : ZS} : Yd (fun R => zb_generalise_p94 R d x3 x4 S) := by
  unfold zb_generalise_p94
  exact (Yd_za fun v1 => (Yd_if (Yd_za fun v2 => (Yd_let fun x5_3 => Yd_rec)) (Yd_za fun v4 => (Yd_if (Yd_za fun v5 => (Yd_let fun x5_6 => Yd_rec)) Yd_rec))))
theorem zd_judgedRec_p209 {d : Nat} {x1 : Int} {x2 : Int} {x3 : Int} {x4 : Int} {x5 : Int} {x6 : Int} {x7 : Int} {x8 : Int} {S : ZS} : Yd (fun R => zb_judgedRec_p209 R d x1 x2 x3 x4 x5 x6 x7 x8 S) := by
  unfold zb_judgedRec_p209
  exact (Yd_if (Yd_za fun v1 => (Yd_za fun v2 => (Yd_za fun v3 => (Yd_za fun v4 => (Yd_I Yd_c fun v6 S5 => (Yd_let fun x9_7 => (Yd_G (Yd_let fun x8_8 => Yd_rec)))))))) (Yd_za fun v9 => (Yd_let fun x8_10 => Yd_rec)))
theorem zd_judgedRec_p63 {d : Nat} {x1 : Int} {x2 : Int} {x3 : Int} {x4 : Int} {x5 : Int} {x6 : Int} {x7 : Int} {x8 : Int} {S : ZS} : Yd (fun R => zb_judgedRec_p63 R d x1 x2 x3 x4 x5 x6 x7 x8 S) := by
  unfold zb_judgedRec_p63
  exact (Yd_za fun v1 => (Yd_if (Yd_za fun v2 => (Yd_let fun x8_3 => Yd_rec)) (Yd_za fun v4 => (Yd_if (Yd_za fun v5 => (Yd_I Yd_c fun v7 S6 => (Yd_zs fun S8 => (Yd_za fun v9 => (Yd_if (Yd_zs fun S10 => (Yd_za fun v11 => (Yd_let fun x7_12 => Yd_rec))) (Yd_za fun v13 => (Yd_za fun v14 => Yd_k))))))) (Yd_za fun v15 => (Yd_za fun v16 => Yd_k))))))
theorem zd_judgedFun_p133 {d : Nat} {x1 : Int} {x2 : Int} {x3 : Int} {x4 : Int} {x5 : Int} {x6 : Int} {x7 : Int} {x8 : Int} {S : ZS} : Yd (fun R => zb_judgedFun_p133 R d x1 x2 x3 x4 x5 x6 x7 x8 S) := by
  unfold zb_judgedFun_p133
  exact (Yd_if (Yd_za fun v1 => (Yd_za fun v2 => (Yd_za fun v3 => (Yd_za fun v4 => (Yd_I Yd_c fun v6 S5 => (Yd_let fun x9_7 => (Yd_G (Yd_let fun x8_8 => Yd_rec)))))))) (Yd_let fun x8_9 => (Yd_za fun v10 => (Yd_let fun x9_11 => Yd_rec))))
theorem zd_judgedFunction_p128 {d : Nat} {x1 : Int} {x2 : Int} {x3 : Int} {x4 : Int} {x5 : Int} {x6 : Int} {x7 : Int} {x8 : Int} {x9 : Int} {x10 : Int} {x11 : Int} {x12 : Int} {x14 : Int} {S : ZS} : Yd (fun R => zb_judgedFunction_p128 R d x1 x2 x3 x4 x5 x6 x7 x8 x9 x10 x11 x12 x14 S) := by
  unfold zb_judgedFunction_p128
  exact (Yd_if (Yd_zs fun S1 => (Yd_V Yd_c fun S2 => (Yd_zp fun S3 => (Yd_zp fun S4 => (Yd_zpZ fun S5 => (Yd_zpZ fun S6 => (Yd_let fun x14_7 => (Yd_G (Yd_let fun x15_8 => Yd_rec))))))))) (Yd_I Yd_c fun v10 S9 => (Yd_let fun x11_11 => (Yd_let fun x15_12 => (Yd_za fun v13 => (Yd_let fun x16_14 => Yd_rec))))))
theorem zd_judgedClause_p135 {d : Nat} {x1 : Int} {x2 : Int} {x5 : Int} {x6 : Int} {x8 : Int} {x9 : Int} {x10 : Int} {x11 : Int} {x12 : Int} {S : ZS} : Yd (fun R => zb_judgedClause_p135 R d x1 x2 x5 x6 x8 x9 x10 x11 x12 S) := by
  unfold zb_judgedClause_p135
  exact (Yd_if (Yd_V Yd_c fun S1 => (Yd_zp fun S2 => (Yd_za fun v3 => (Yd_if Yd_rec (Yd_za fun v4 => (Yd_I Yd_c fun v6 S5 => Yd_rec)))))) (Yd_I Yd_c fun v8 S7 => (Yd_let fun x13_9 => (Yd_za fun v10 => (Yd_if (Yd_zs fun S11 => Yd_rec) (Yd_za fun v12 => (Yd_za fun v13 => (Yd_V Yd_c fun S14 => Yd_rec))))))))
theorem zd_lengthOf_fNext {d : Nat} {x1 : Int} {S : ZS} : Yd (fun R => zb_lengthOf_fNext R d x1 S) := by
  unfold zb_lengthOf_fNext
  exact (Yd_let fun x2_1 => (Yd_let fun x3_2 => Yd_rec))
theorem zd_listed_p22 {d : Nat} {x2 : Int} {x3 : Int} {x4 : Int} {x5 : Int} {x6 : Int} {S : ZS} : Yd (fun R => zb_listed_p22 R d x2 x3 x4 x5 x6 S) := by
  unfold zb_listed_p22
  exact (Yd_if (Yd_za fun v1 => (Yd_za fun v2 => (Yd_if (Yd_za fun v3 => Yd_k) (Yd_G (Yd_let fun x6_4 => Yd_rec))))) (Yd_za fun v5 => (Yd_I Yd_c fun v7 S6 => (Yd_if Yd_rec Yd_rec))))
theorem zd_judgedData_p212 {d : Nat} {x1 : Int} {x2 : Int} {x3 : Int} {x4 : Int} {x6 : Int} {S : ZS} : Yd (fun R => zb_judgedData_p212 R d x1 x2 x3 x4 x6 S) := by
  unfold zb_judgedData_p212
  exact (Yd_if (Yd_let fun x6_1 => (Yd_za fun v2 => (Yd_let fun x7_3 => Yd_rec))) (Yd_za fun v4 => (Yd_za fun v5 => (Yd_za fun v6 => (Yd_za fun v7 => (Yd_I Yd_c fun v9 S8 => (Yd_let fun x7_10 => (Yd_za fun v11 => (Yd_let fun x6_12 => Yd_rec)))))))))
theorem zd_judgedData_p53 {d : Nat} {x1 : Int} {x2 : Int} {x3 : Int} {x4 : Int} {x5 : Int} {x6 : Int} {x7 : Int} {S : ZS} : Yd (fun R => zb_judgedData_p53 R d x1 x2 x3 x4 x5 x6 x7 S) := by
  unfold zb_judgedData_p53
  exact (Yd_if (Yd_za fun v1 => (Yd_za fun v2 => (Yd_if (Yd_za fun v3 => Yd_k) (Yd_G (Yd_let fun x7_4 => Yd_rec))))) (Yd_za fun v5 => (Yd_V Yd_c fun S6 => (Yd_let fun x7_7 => (Yd_G (Yd_zp fun S8 => (Yd_za fun v9 => (Yd_zs fun S10 => (Yd_za fun v11 => (Yd_I Yd_c fun v13 S12 => (Yd_zs fun S14 => (Yd_zs fun S15 => (Yd_zs fun S16 => (Yd_zs fun S17 => (Yd_za fun v18 => (Yd_let fun x6_19 => Yd_rec))))))))))))))))
theorem zd_judgedCons_p87 {d : Nat} {x2 : Int} {x3 : Int} {x4 : Int} {x5 : Int} {x6 : Int} {S : ZS} : Yd (fun R => zb_judgedCons_p87 R d x2 x3 x4 x5 x6 S) := by
  unfold zb_judgedCons_p87
  exact (Yd_if (Yd_za fun v1 => (Yd_za fun v2 => (Yd_if (Yd_za fun v3 => Yd_k) (Yd_G (Yd_let fun x6_4 => Yd_rec))))) (Yd_za fun v5 => (Yd_V Yd_c fun S6 => (Yd_za fun v7 => (Yd_if Yd_rec (Yd_za fun v8 => (Yd_I Yd_c fun v10 S9 => Yd_rec)))))))
theorem zd_admits_p78 {d : Nat} {x3 : Int} {x4 : Int} {S : ZS} : Yd (fun R => zb_admits_p78 R d x3 x4 S) := by
  unfold zb_admits_p78
  exact (Yd_za fun v1 => (Yd_if Yd_rec (Yd_za fun v2 => (Yd_if Yd_rec Yd_rec))))
theorem zd_judgedException_p104 {d : Nat} {x1 : Int} {x3 : Int} {S : ZS} : Yd (fun R => zb_judgedException_p104 R d x1 x3 S) := by
  unfold zb_judgedException_p104
  exact (Yd_let fun x4_1 => (Yd_G (Yd_zp fun S2 => (Yd_za fun v3 => (Yd_if (Yd_G Yd_rec) (Yd_G Yd_rec))))))
theorem zd_judgedLocal_p79 {d : Nat} {x2 : Int} {x3 : Int} {x5 : Int} {x6 : Int} {x7 : Int} {S : ZS} : Yd (fun R => zb_judgedLocal_p79 R d x2 x3 x5 x6 x7 S) := by
  unfold zb_judgedLocal_p79
  exact (Yd_if (Yd_I Yd_c fun v2 S1 => (Yd_zp fun S3 => (Yd_I Yd_c fun v5 S4 => (Yd_zp fun S6 => Yd_k)))) (Yd_V Yd_c fun S7 => (Yd_za fun v8 => (Yd_let fun x7_9 => Yd_rec))))
theorem zd_finish_p55 {d : Nat} {x1 : Int} {x2 : Int} {S : ZS} : Yd (fun R => zb_finish_p55 R d x1 x2 S) := by
  unfold zb_finish_p55
  exact (Yd_za fun v1 => (Yd_if (Yd_za fun v2 => (Yd_if (Yd_G (Yd_let fun x2_3 => Yd_rec)) (Yd_if Yd_rec (Yd_za fun v4 => (Yd_if Yd_rec (Yd_G (Yd_let fun x2_5 => Yd_rec))))))) (Yd_G (Yd_let fun x2_6 => Yd_rec))))
theorem zd_finish_p120 {d : Nat} {x2 : Int} {S : ZS} : Yd (fun R => zb_finish_p120 R d x2 S) := by
  unfold zb_finish_p120
  exact (Yd_if (Yd_za fun v1 => (Yd_if (Yd_za fun v2 => (Yd_za fun v3 => (Yd_I Yd_c fun v5 S4 => (Yd_if (Yd_G (Yd_let fun x2_6 => Yd_rec)) (Yd_za fun v7 => (Yd_za fun v8 => Yd_k)))))) (Yd_G (Yd_let fun x2_9 => Yd_rec)))) (Yd_let fun x2_10 => Yd_rec))
theorem zd_hasUnknown_p74 {d : Nat} {x3 : Int} {x4 : Int} {S : ZS} : Yd (fun R => zb_hasUnknown_p74 R d x3 x4 S) := by
  unfold zb_hasUnknown_p74
  exact (Yd_za fun v1 => (Yd_if (Yd_za fun v2 => (Yd_let fun x5_3 => Yd_rec)) (Yd_za fun v4 => (Yd_if (Yd_za fun v5 => (Yd_let fun x5_6 => Yd_rec)) Yd_rec))))
theorem zd_noteAll_p224 {d : Nat} {x1 : Int} {x2 : Int} {x3 : Int} {x4 : Int} {x5 : Int} {S : ZS} : Yd (fun R => zb_noteAll_p224 R d x1 x2 x3 x4 x5 S) := by
  unfold zb_noteAll_p224
  exact (Yd_G (Yd_zp fun S1 => (Yd_if (Yd_let fun x6_2 => (Yd_let fun x7_3 => Yd_rec)) (Yd_let fun x6_4 => Yd_rec))))
theorem zd_lengthOf_next {d : Nat} {x1 : Int} {S : ZS} : Yd (fun R => zb_lengthOf_next R d x1 S) := by
  unfold zb_lengthOf_next
  exact (Yd_let fun x2_1 => (Yd_let fun x3_2 => Yd_rec))
theorem zd_noteAll_p96 {d : Nat} {x1 : Int} {x2 : Int} {x3 : Int} {x4 : Int} {x5 : Int} {x6 : Int} {S : ZS} : Yd (fun R => zb_noteAll_p96 R d x1 x2 x3 x4 x5 x6 S) := by
  unfold zb_noteAll_p96
  exact (Yd_if Yd_rec (Yd_let fun x7_1 => (Yd_za fun v2 => (Yd_let fun x8_3 => Yd_rec))))
theorem zd_noteAll_p189 {d : Nat} {x1 : Int} {x2 : Int} {x3 : Int} {x4 : Int} {x5 : Int} {x6 : Int} {S : ZS} : Yd (fun R => zb_noteAll_p189 R d x1 x2 x3 x4 x5 x6 S) := by
  unfold zb_noteAll_p189
  exact (Yd_if Yd_rec (Yd_za fun v1 => (Yd_zs fun S2 => (Yd_G (Yd_let fun x4_3 => (Yd_za fun v4 => (Yd_let fun x6_5 => Yd_rec)))))))
theorem zd_isUseful_p61 {d : Nat} {x2 : Int} {x3 : Int} {x4 : Int} {x5 : Int} {x6 : Int} {S : ZS} : Yd (fun R => zb_isUseful_p61 R d x2 x3 x4 x5 x6 S) := by
  unfold zb_isUseful_p61
  exact (Yd_if (Yd_za fun v1 => (Yd_zs fun S2 => (Yd_G (Yd_let fun x6_3 => Yd_rec)))) (Yd_G (Yd_zp fun S4 => (Yd_I Yd_c fun v6 S5 => (Yd_let fun x6_7 => (Yd_zp fun S8 => Yd_k))))))
theorem zd_usefulHere_p110 {d : Nat} {x1 : Int} {x3 : Int} {x4 : Int} {x5 : Int} {x6 : Int} {S : ZS} : Yd (fun R => zb_usefulHere_p110 R d x1 x3 x4 x5 x6 S) := by
  unfold zb_usefulHere_p110
  exact (Yd_if (Yd_V Yd_c fun S1 => (Yd_V Yd_c fun S2 => Yd_rec)) (Yd_if (Yd_if (Yd_I Yd_c fun v4 S3 => (Yd_I Yd_c fun v6 S5 => (Yd_I Yd_c fun v8 S7 => (Yd_if Yd_rec (Yd_I Yd_c fun v10 S9 => (Yd_I Yd_c fun v12 S11 => (Yd_za fun v13 => (Yd_if (Yd_I Yd_c fun v15 S14 => (Yd_I Yd_c fun v17 S16 => (Yd_I Yd_c fun v19 S18 => (Yd_if (Yd_G (Yd_V Yd_c fun S20 => (Yd_V Yd_c fun S21 => Yd_rec))) (Yd_G (Yd_V Yd_c fun S22 => (Yd_V Yd_c fun S23 => Yd_rec))))))) (Yd_I Yd_c fun v25 S24 => (Yd_I Yd_c fun v27 S26 => (Yd_I Yd_c fun v29 S28 => Yd_k))))))))))) Yd_rec) (Yd_I Yd_c fun v31 S30 => (Yd_if (Yd_V Yd_c fun S32 => (Yd_V Yd_c fun S33 => Yd_rec)) (Yd_V Yd_c fun S34 => (Yd_V Yd_c fun S35 => Yd_rec))))))
theorem zd_takesAll_p14 {d : Nat} {x1 : Int} {x2 : Int} {x3 : Int} {S : ZS} : Yd (fun R => zb_takesAll_p14 R d x1 x2 x3 S) := by
  unfold zb_takesAll_p14
  exact (Yd_if (Yd_if (Yd_if (Yd_G (Yd_let fun x1_1 => Yd_rec)) Yd_k) (Yd_za fun v2 => (Yd_I Yd_c fun v4 S3 => (Yd_if (Yd_let fun x2_5 => (Yd_G (Yd_let fun x3_6 => Yd_rec))) (Yd_let fun x2_7 => (Yd_G (Yd_let fun x3_8 => Yd_rec))))))) (Yd_if (Yd_G (Yd_let fun x1_9 => Yd_rec)) Yd_k))
theorem zd_bare0_p26 {d : Nat} {x2 : Int} {S : ZS} : Yd (fun R => zb_bare0_p26 R d x2 S) := by
  unfold zb_bare0_p26
  exact (Yd_za fun v1 => (Yd_let fun x2_2 => Yd_rec))
theorem zd_rowStep_p64 {d : Nat} {x1 : Int} {x2 : Int} {x3 : Int} {S : ZS} : Yd (fun R => zb_rowStep_p64 R d x1 x2 x3 S) := by
  unfold zb_rowStep_p64
  exact (Yd_if (Yd_G (Yd_let fun x4_1 => (Yd_za fun v2 => (Yd_I Yd_c fun v4 S3 => (Yd_let fun x5_5 => (Yd_let fun x6_6 => Yd_rec)))))) (Yd_G (Yd_zp fun S7 => (Yd_zp fun S8 => (Yd_zp fun S9 => Yd_k)))))
theorem zd_labelsOf_p96 {d : Nat} {x2 : Int} {x3 : Int} {S : ZS} : Yd (fun R => zb_labelsOf_p96 R d x2 x3 S) := by
  unfold zb_labelsOf_p96
  exact (Yd_G (Yd_let fun x2_1 => (Yd_za fun v2 => (Yd_let fun x3_3 => Yd_rec))))
theorem zd_narrowed_p90 {d : Nat} {x1 : Int} {x2 : Int} {x3 : Int} {x4 : Int} {x5 : Int} {x6 : Int} {x7 : Int} {x8 : Int} {S : ZS} : Yd (fun R => zb_narrowed_p90 R d x1 x2 x3 x4 x5 x6 x7 x8 S) := by
  unfold zb_narrowed_p90
  exact (Yd_G (Yd_let fun x9_1 => (Yd_if (Yd_if (Yd_zs fun S2 => (Yd_let fun x10_3 => Yd_rec)) (Yd_I Yd_c fun v5 S4 => (Yd_zs fun S6 => (Yd_let fun x10_7 => Yd_rec)))) (Yd_let fun x10_8 => Yd_rec))))
theorem zd_areAllTold_p29 {d : Nat} {x1 : Int} {x2 : Int} {x3 : Int} {x4 : Int} {S : ZS} : Yd (fun R => zb_areAllTold_p29 R d x1 x2 x3 x4 S) := by
  unfold zb_areAllTold_p29
  exact (Yd_if (Yd_if (Yd_za fun v1 => (Yd_I Yd_c fun v3 S2 => (Yd_let fun x5_4 => (Yd_if (Yd_let fun x3_5 => (Yd_G (Yd_let fun x4_6 => Yd_rec))) (Yd_I Yd_c fun v8 S7 => (Yd_if (Yd_let fun x3_9 => (Yd_G (Yd_let fun x4_10 => Yd_rec))) (Yd_let fun x3_11 => (Yd_G (Yd_let fun x4_12 => Yd_rec))))))))) (Yd_if Yd_k (Yd_G (Yd_let fun x2_13 => Yd_rec)))) (Yd_if Yd_k (Yd_G (Yd_let fun x2_14 => Yd_rec))))
theorem zd_usefulByEach_p98 {d : Nat} {x1 : Int} {x2 : Int} {x3 : Int} {x4 : Int} {x5 : Int} {x7 : Int} {y0 : Int} {y1 : Int} {S : ZS} : Yd (fun R => zb_usefulByEach_p98 R d x1 x2 x3 x4 x5 x7 y0 y1 S) := by
  unfold zb_usefulByEach_p98
  exact (Yd_V Yd_c fun S1 => (Yd_I Yd_c fun v3 S2 => (Yd_let fun x6_4 => (Yd_G (Yd_let fun x7_5 => Yd_rec)))))
theorem zd_note0_p79 {d : Nat} {x1 : Int} {x2 : Int} {x3 : Int} {S : ZS} : Yd (fun R => zb_note0_p79 R d x1 x2 x3 S) := by
  unfold zb_note0_p79
  exact (Yd_zs fun S1 => (Yd_zs fun S2 => (Yd_G (Yd_zp fun S3 => Yd_k))))
theorem zd_note0_p45 {d : Nat} {x1 : Int} {x2 : Int} {x3 : Int} {S : ZS} : Yd (fun R => zb_note0_p45 R d x1 x2 x3 S) := by
  unfold zb_note0_p45
  exact (Yd_za fun v1 => (Yd_zs fun S2 => (Yd_za fun v3 => (Yd_zs fun S4 => (Yd_G (Yd_let fun x3_5 => Yd_rec))))))
theorem zd_runAll_p46 {d : Nat}  {S : ZS} : Yd (fun R => zb_runAll_p46 R d  S) := by
  unfold zb_runAll_p46
  exact (Yd_if (Yd_V Yd_c fun S1 => Yd_rec) (Yd_V Yd_c fun S2 => Yd_rec))
theorem zd_goesOn_2_p224 {d : Nat} {x2 : Int} {x3 : Int} {y0 : Int} {y1 : Int} {S : ZS} : Yd (fun R => zb_goesOn_2_p224 R d x2 x3 y0 y1 S) := by
  unfold zb_goesOn_2_p224
  exact (Yd_if (Yd_za fun v1 => (Yd_V Yd_c fun S2 => Yd_k)) Yd_k)
theorem zd_areEqual_p101 {d : Nat} {x5 : Int} {x6 : Int} {x8 : Int} {x10 : Int} {S : ZS} : Yd (fun R => zb_areEqual_p101 R d x5 x6 x8 x10 S) := by
  unfold zb_areEqual_p101
  exact (Yd_if (Yd_I Yd_c fun v2 S1 => (Yd_if Yd_rec (Yd_I Yd_c fun v4 S3 => (Yd_if Yd_k (Yd_I Yd_c fun v6 S5 => (Yd_I Yd_c fun v8 S7 => (Yd_I Yd_c fun v10 S9 => (Yd_let fun x5_11 => Yd_rec)))))))) Yd_rec)
theorem zd_joinedStrings_p101 {d : Nat} {x6 : Int} {x8 : Int} {x10 : Int} {S : ZS} : Yd (fun R => zb_joinedStrings_p101 R d x6 x8 x10 S) := by
  unfold zb_joinedStrings_p101
  exact (Yd_I Yd_c fun v2 S1 => (Yd_if (Yd_I Yd_c fun v4 S3 => (Yd_V Yd_c fun S5 => (Yd_G (Yd_let fun x10_6 => Yd_rec)))) Yd_k))
theorem zd_imploded_p70 {d : Nat} {x4 : Int} {x6 : Int} {S : ZS} : Yd (fun R => zb_imploded_p70 R d x4 x6 S) := by
  unfold zb_imploded_p70
  exact (Yd_J Yd_c fun v2 S1 => (Yd_if Yd_k (Yd_J Yd_c fun v4 S3 => (Yd_I Yd_c fun v6 S5 => (Yd_V Yd_c fun S7 => (Yd_J Yd_c fun v9 S8 => (Yd_let fun x6_10 => Yd_rec)))))))
theorem zd_digitsOf_p29 {d : Nat} {x1 : Int} {x3 : Int} {x5 : Int} {x6 : Int} {S : ZS} : Yd (fun R => zb_digitsOf_p29 R d x1 x3 x5 x6 S) := by
  unfold zb_digitsOf_p29
  exact (Yd_G (Yd_if (Yd_G (Yd_I Yd_c fun v3 S2 => (Yd_if Yd_k (Yd_J Yd_c fun v5 S4 => (Yd_let fun x8_6 => (Yd_if (Yd_V Yd_c fun S7 => Yd_rec) Yd_rec)))))) (Yd_G (Yd_let fun x6_8 => (Yd_G (Yd_let fun x5_9 => Yd_rec))))))
theorem zd_call_p144 {d : Nat} {x1 : Int} {x3 : Int} {x5 : Int} {x7 : Int} {S : ZS} : Yd (fun R => zb_call_p144 R d x1 x3 x5 x7 S) := by
  unfold zb_call_p144
  exact (Yd_if (Yd_I Yd_c fun v2 S1 => (Yd_zaL fun v3 => (Yd_zsL fun S4 => (Yd_G (Yd_let fun x7_5 => Yd_rec))))) (Yd_zsL fun S6 => (Yd_za fun v7 => (Yd_G (Yd_zp fun S8 => (Yd_V Yd_c fun S9 => Yd_k))))))
theorem zd_body_p68 {d : Nat} {x2 : Int} {x3 : Int} {x4 : Int} {x5 : Int} {S : ZS} : Yd (fun R => zb_body_p68 R d x2 x3 x4 x5 S) := by
  unfold zb_body_p68
  exact (Yd_if Yd_rec (Yd_if Yd_rec (Yd_zaL fun v1 => (Yd_I Yd_c fun v3 S2 => (Yd_let fun x4_4 => (Yd_G (Yd_let fun x3_5 => (Yd_za fun v6 => (Yd_let fun x5_7 => Yd_rec)))))))))
theorem zd_rec_p68 {d : Nat} {x2 : Int} {S : ZS} : Yd (fun R => zb_rec_p68 R d x2 S) := by
  unfold zb_rec_p68
  exact (Yd_if Yd_k (Yd_za fun v1 => (Yd_za fun v2 => (Yd_za fun v3 => (Yd_I Yd_c fun v5 S4 => (Yd_J Yd_c fun v7 S6 => (Yd_V Yd_c fun S8 => (Yd_za fun v9 => (Yd_let fun x2_10 => Yd_rec)))))))))
theorem zd_fun_p59 {d : Nat} {x2 : Int} {S : ZS} : Yd (fun R => zb_fun_p59 R d x2 S) := by
  unfold zb_fun_p59
  exact (Yd_if Yd_k (Yd_za fun v1 => (Yd_za fun v2 => (Yd_J Yd_c fun v4 S3 => (Yd_V Yd_c fun S5 => (Yd_za fun v6 => (Yd_let fun x2_7 => Yd_rec)))))))
theorem zd_rowOf_p58 {d : Nat} {x3 : Int} {x4 : Int} {x5 : Int} {x6 : Int} {S : ZS} : Yd (fun R => zb_rowOf_p58 R d x3 x4 x5 x6 S) := by
  unfold zb_rowOf_p58
  exact (Yd_if (Yd_J Yd_c fun v2 S1 => Yd_k) (Yd_let fun x7_3 => (Yd_if Yd_rec (Yd_let fun x7_4 => Yd_rec))))
theorem zd_shapeOf_p51 {d : Nat} {x1 : Int} {x2 : Int} {x3 : Int} {x4 : Int} {S : ZS} : Yd (fun R => zb_shapeOf_p51 R d x1 x2 x3 x4 S) := by
  unfold zb_shapeOf_p51
  exact (Yd_if Yd_rec (Yd_za fun v1 => (Yd_za fun v2 => (Yd_I Yd_c fun v4 S3 => (Yd_if Yd_rec (Yd_za fun v5 => (Yd_zs fun S6 => (Yd_G (Yd_let fun x4_7 => Yd_rec)))))))))
theorem zd_likeShape_p29 {d : Nat} {x1 : Int} {x2 : Int} {x3 : Int} {x4 : Int} {S : ZS} : Yd (fun R => zb_likeShape_p29 R d x1 x2 x3 x4 S) := by
  unfold zb_likeShape_p29
  exact (Yd_if (Yd_if (Yd_if (Yd_G (Yd_let fun x2_1 => Yd_rec)) Yd_k) (Yd_za fun v2 => (Yd_za fun v3 => (Yd_za fun v4 => (Yd_if (Yd_let fun x3_5 => (Yd_G (Yd_let fun x4_6 => Yd_rec))) (Yd_let fun x3_7 => (Yd_G (Yd_let fun x4_8 => Yd_rec)))))))) (Yd_if (Yd_G (Yd_let fun x2_9 => Yd_rec)) Yd_k))
theorem zd_keepBound_p150 {d : Nat} {x3 : Int} {x4 : Int} {S : ZS} : Yd (fun R => zb_keepBound_p150 R d x3 x4 S) := by
  unfold zb_keepBound_p150
  exact (Yd_if (Yd_zp fun S1 => (Yd_let fun x2_2 => (Yd_let fun x4_3 => Yd_rec))) (Yd_za fun v4 => (Yd_let fun x5_5 => (Yd_za fun v6 => (Yd_zs fun S7 => (Yd_za fun v8 => (Yd_zs fun S9 => (Yd_za fun v10 => (Yd_zs fun S11 => (Yd_za fun v12 => (Yd_zs fun S13 => (Yd_zs fun S14 => (Yd_za fun v15 => (Yd_zs fun S16 => (Yd_zs fun S17 => (Yd_zp fun S18 => (Yd_G (Yd_let fun x3_19 => (Yd_G (Yd_let fun x4_20 => Yd_rec))))))))))))))))))))
theorem zd_keepBound_p68 {d : Nat} {x1 : Int} {x2 : Int} {x3 : Int} {y0 : Int} {y1 : Int} {S : ZS} : Yd (fun R => zb_keepBound_p68 R d x1 x2 x3 y0 y1 S) := by
  unfold zb_keepBound_p68
  exact (Yd_zs fun S1 => (Yd_za fun v2 => (Yd_if (Yd_za fun v3 => (Yd_za fun v4 => (Yd_zs fun S5 => Yd_rec))) Yd_rec)))
theorem zd_keepInfix_p118 {d : Nat} {x2 : Int} {x3 : Int} {S : ZS} : Yd (fun R => zb_keepInfix_p118 R d x2 x3 S) := by
  unfold zb_keepInfix_p118
  exact (Yd_if (Yd_zp fun S1 => Yd_k) (Yd_za fun v2 => (Yd_za fun v3 => (Yd_zs fun S4 => (Yd_zs fun S5 => (Yd_zp fun S6 => (Yd_G (Yd_let fun x2_7 => (Yd_G (Yd_let fun x3_8 => Yd_rec))))))))))
theorem zd_keepInfix_p22 {d : Nat} {x1 : Int} {x2 : Int} {x3 : Int} {x4 : Int} {S : ZS} : Yd (fun R => zb_keepInfix_p22 R d x1 x2 x3 x4 S) := by
  unfold zb_keepInfix_p22
  exact (Yd_if (Yd_if (Yd_za fun v1 => (Yd_za fun v2 => (Yd_za fun v3 => (Yd_if (Yd_let fun x3_4 => (Yd_G (Yd_let fun x4_5 => Yd_rec))) (Yd_let fun x3_6 => (Yd_G (Yd_let fun x4_7 => Yd_rec))))))) Yd_rec) Yd_rec)
theorem zd_keepTypes_p46 {d : Nat} {x2 : Int} {x3 : Int} {S : ZS} : Yd (fun R => zb_keepTypes_p46 R d x2 x3 S) := by
  unfold zb_keepTypes_p46
  exact (Yd_if (Yd_zp fun S1 => Yd_k) (Yd_za fun v2 => (Yd_let fun x4_3 => (Yd_za fun v4 => (Yd_if (Yd_za fun v5 => (Yd_G (Yd_let fun x5_6 => (Yd_I Yd_c fun v8 S7 => (Yd_G (Yd_let fun x6_9 => (Yd_let fun x7_10 => Yd_rec))))))) (Yd_G (Yd_let fun x3_11 => Yd_rec)))))))
theorem zd_endOf_p58 {d : Nat} {x3 : Int} {x4 : Int} {x5 : Int} {x6 : Int} {S : ZS} : Yd (fun R => zb_endOf_p58 R d x3 x4 x5 x6 S) := by
  unfold zb_endOf_p58
  exact (Yd_if (Yd_if (Yd_I Yd_c fun v2 S1 => (Yd_let fun x3_3 => (Yd_G (Yd_let fun x6_4 => Yd_rec)))) (Yd_G (Yd_I Yd_c fun v6 S5 => (Yd_let fun x3_7 => (Yd_G (Yd_let fun x6_8 => Yd_rec)))))) Yd_k)
theorem zd_noteLines_p52 {d : Nat} {x1 : Int} {x2 : Int} {S : ZS} : Yd (fun R => zb_noteLines_p52 R d x1 x2 S) := by
  unfold zb_noteLines_p52
  exact (Yd_za fun v1 => (Yd_if (Yd_G (Yd_let fun x1_2 => Yd_rec)) (Yd_za fun v3 => (Yd_if (Yd_G (Yd_let fun x1_4 => Yd_rec)) (Yd_za fun v5 => (Yd_zs fun S6 => (Yd_za fun v7 => (Yd_if (Yd_za fun v8 => Yd_rec) (Yd_za fun v9 => Yd_rec)))))))))
theorem zd_sayInt_p28 {d : Nat} {x3 : Int} {x5 : Int} {S : ZS} : Yd (fun R => zb_sayInt_p28 R d x3 x5 S) := by
  unfold zb_sayInt_p28
  exact (Yd_G (Yd_if Yd_rec (Yd_G (Yd_let fun x5_2 => Yd_rec))))
theorem zd_sayRow_p84 {d : Nat} {x1 : Int} {x3 : Int} {x4 : Int} {x5 : Int} {x6 : Int} {S : ZS} : Yd (fun R => zb_sayRow_p84 R d x1 x3 x4 x5 x6 S) := by
  unfold zb_sayRow_p84
  exact (Yd_if (Yd_if Yd_rec (Yd_V Yd_c fun S1 => Yd_rec)) (Yd_if (Yd_V Yd_c fun S2 => Yd_k) (Yd_V Yd_c fun S3 => Yd_k)))
theorem zd_sayBehind_p38 {d : Nat} {x1 : Int} {x3 : Int} {x4 : Int} {S : ZS} : Yd (fun R => zb_sayBehind_p38 R d x1 x3 x4 S) := by
  unfold zb_sayBehind_p38
  exact (Yd_V Yd_c fun S1 => (Yd_if Yd_k (Yd_V Yd_c fun S2 => Yd_k)))
theorem zd_sayMade_p91 {d : Nat} {x3 : Int} {x6 : Int} {S : ZS} : Yd (fun R => zb_sayMade_p91 R d x3 x6 S) := by
  unfold zb_sayMade_p91
  exact (Yd_let fun x5_1 => (Yd_J Yd_c fun v3 S2 => (Yd_G (Yd_V Yd_c fun S4 => (Yd_J Yd_c fun v6 S5 => (Yd_let fun x6_7 => Yd_rec))))))
theorem zd_sayType_p82 {d : Nat} {x2 : Int} {x3 : Int} {x4 : Int} {y0 : Int} {S : ZS} : Yd (fun R => zb_sayType_p82 R d x2 x3 x4 y0 S) := by
  unfold zb_sayType_p82
  exact (Yd_let fun x5_1 => (Yd_if Yd_rec (Yd_if Yd_rec Yd_rec)))
theorem zd_sayVariable_p26 {d : Nat} {x1 : Int} {x2 : Int} {S : ZS} : Yd (fun R => zb_sayVariable_p26 R d x1 x2 S) := by
  unfold zb_sayVariable_p26
  exact (Yd_if (Yd_zs fun S1 => (Yd_G (Yd_zp fun S2 => Yd_rec))) Yd_rec)
theorem zd_isTuple_p41 {d : Nat} {x1 : Int} {x2 : Int} {x3 : Int} {x4 : Int} {S : ZS} : Yd (fun R => zb_isTuple_p41 R d x1 x2 x3 x4 S) := by
  unfold zb_isTuple_p41
  exact (Yd_if (Yd_if (Yd_let fun x3_1 => (Yd_G (Yd_let fun x4_2 => Yd_rec))) (Yd_za fun v3 => (Yd_I Yd_c fun v5 S4 => (Yd_I Yd_c fun v7 S6 => (Yd_if (Yd_let fun x3_8 => (Yd_G (Yd_let fun x4_9 => Yd_rec))) (Yd_let fun x3_10 => (Yd_G (Yd_let fun x4_11 => Yd_rec)))))))) Yd_k)
theorem zd_sayRowType_p47 {d : Nat} {x1 : Int} {x2 : Int} {x3 : Int} {x5 : Int} {x6 : Int} {S : ZS} : Yd (fun R => zb_sayRowType_p47 R d x1 x2 x3 x5 x6 S) := by
  unfold zb_sayRowType_p47
  exact (Yd_if (Yd_if Yd_rec Yd_rec) (Yd_za fun v1 => (Yd_let fun x7_2 => (Yd_if (Yd_I Yd_c fun v4 S3 => (Yd_if (Yd_za fun v5 => (Yd_let fun x6_6 => Yd_rec)) Yd_rec)) Yd_rec))))
theorem zd_sayMadeType_p55 {d : Nat} {x1 : Int} {x2 : Int} {x3 : Int} {S : ZS} : Yd (fun R => zb_sayMadeType_p55 R d x1 x2 x3 S) := by
  unfold zb_sayMadeType_p55
  exact (Yd_if (Yd_V Yd_c fun S1 => Yd_rec) (Yd_if Yd_rec (Yd_V Yd_c fun S2 => Yd_rec)))
theorem zd_sayVars_p39 {d : Nat} {x1 : Int} {x2 : Int} {x3 : Int} {S : ZS} : Yd (fun R => zb_sayVars_p39 R d x1 x2 x3 S) := by
  unfold zb_sayVars_p39
  exact (Yd_if (Yd_if (Yd_V Yd_c fun S1 => Yd_k) (Yd_V Yd_c fun S2 => (Yd_V Yd_c fun S3 => Yd_k))) (Yd_if Yd_rec (Yd_V Yd_c fun S4 => Yd_rec)))
theorem zd_sign0_p260 {d : Nat} {x2 : Int} {x3 : Int} {S : ZS} : Yd (fun R => zb_sign0_p260 R d x2 x3 S) := by
  unfold zb_sign0_p260
  exact (Yd_za fun v1 => (Yd_if (Yd_za fun v2 => (Yd_if (Yd_G Yd_rec) (Yd_G Yd_rec))) (Yd_G Yd_rec)))
theorem zd_gaps_p145 {d : Nat} {x1 : Int} {x2 : Int} {x3 : Int} {S : ZS} : Yd (fun R => zb_gaps_p145 R d x1 x2 x3 S) := by
  unfold zb_gaps_p145
  exact (Yd_I Yd_c fun v2 S1 => (Yd_if (Yd_if Yd_k (Yd_if Yd_rec Yd_k)) Yd_rec))
theorem zd_nameAt_text_p45 {d : Nat} {x2 : Int} {x3 : Int} {x4 : Int} {x5 : Int} {S : ZS} : Yd (fun R => zb_nameAt_text_p45 R d x2 x3 x4 x5 S) := by
  unfold zb_nameAt_text_p45
  exact (Yd_if (Yd_zs fun S1 => (Yd_zs fun S2 => (Yd_za fun v3 => (Yd_zs fun S4 => (Yd_zs fun S5 => (Yd_let fun x5_6 => Yd_rec)))))) (Yd_za fun v7 => (Yd_if (Yd_let fun x6_8 => (Yd_let fun x7_9 => Yd_rec)) (Yd_let fun x6_10 => (Yd_let fun x7_11 => Yd_rec)))))
theorem zd_readInt_p96 {d : Nat} {x1 : Int} {x2 : Int} {y0 : Int} {y1 : Int} {S : ZS} : Yd (fun R => zb_readInt_p96 R d x1 x2 y0 y1 S) := by
  unfold zb_readInt_p96
  exact (Yd_if (Yd_if Yd_rec (Yd_G Yd_rec)) Yd_k)
theorem zd_readInt_p68 {d : Nat} {x1 : Int} {y0 : Int} {S : ZS} : Yd (fun R => zb_readInt_p68 R d x1 y0 S) := by
  unfold zb_readInt_p68
  exact (Yd_let fun x2_1 => (Yd_G (Yd_zp fun S2 => Yd_rec)))
theorem zd_readString_p159 {d : Nat} {x1 : Int} {x2 : Int} {S : ZS} : Yd (fun R => zb_readString_p159 R d x1 x2 S) := by
  unfold zb_readString_p159
  exact (Yd_zs fun S1 => (Yd_if Yd_rec Yd_rec))
theorem zd_readEscape_p131 {d : Nat} {x2 : Int} {x3 : Int} {x4 : Int} {y0 : Int} {y1 : Int} {S : ZS} : Yd (fun R => zb_readEscape_p131 R d x2 x3 x4 y0 y1 S) := by
  unfold zb_readEscape_p131
  exact (Yd_G (Yd_if (Yd_G (Yd_let fun x2_1 => (Yd_G (Yd_zp fun S2 => (Yd_G (Yd_let fun x3_3 => Yd_rec)))))) Yd_k))
theorem zd_infixed_p54 {d : Nat} {x1 : Int} {x2 : Int} {x3 : Int} {x4 : Int} {S : ZS} : Yd (fun R => zb_infixed_p54 R d x1 x2 x3 x4 S) := by
  unfold zb_infixed_p54
  exact (Yd_if (Yd_zs fun S1 => (Yd_zs fun S2 => (Yd_zs fun S3 => (Yd_G (Yd_zp fun S4 => (Yd_V Yd_c fun S5 => (Yd_V Yd_c fun S6 => Yd_rec))))))) (Yd_za fun v7 => (Yd_let fun x5_8 => (Yd_I Yd_c fun v10 S9 => (Yd_I Yd_c fun v12 S11 => (Yd_if (Yd_I Yd_c fun v14 S13 => (Yd_I Yd_c fun v16 S15 => (Yd_if Yd_rec Yd_k))) Yd_rec))))))
theorem zd_patternField_p137 {d : Nat} {x1 : Int} {x3 : Int} {x5 : Int} {S : ZS} : Yd (fun R => zb_patternField_p137 R d x1 x3 x5 S) := by
  unfold zb_patternField_p137
  exact (Yd_I Yd_c fun v2 S1 => Yd_k)
theorem zd_patternHeld_p73 {d : Nat} {x1 : Int} {x2 : Int} {x3 : Int} {x4 : Int} {x6 : Int} {x8 : Int} {S : ZS} : Yd (fun R => zb_patternHeld_p73 R d x1 x2 x3 x4 x6 x8 S) := by
  unfold zb_patternHeld_p73
  exact (Yd_let fun x5_1 => (Yd_G (Yd_let fun x6_2 => (Yd_I Yd_c fun v4 S3 => (Yd_let fun x7_5 => Yd_rec)))))
theorem zd_clause_p191 {d : Nat} {x1 : Int} {x4 : Int} {x5 : Int} {x6 : Int} {S : ZS} : Yd (fun R => zb_clause_p191 R d x1 x4 x5 x6 S) := by
  unfold zb_clause_p191
  exact (Yd_I Yd_c fun v2 S1 => (Yd_if Yd_rec (Yd_I Yd_c fun v4 S3 => Yd_rec)))
theorem zd_clause_p89 {d : Nat} {x1 : Int} {y0 : Int} {S : ZS} : Yd (fun R => zb_clause_p89 R d x1 y0 S) := by
  unfold zb_clause_p89
  exact (Yd_let fun x5_1 => (Yd_I Yd_c fun v3 S2 => (Yd_let fun x4_4 => (Yd_I Yd_c fun v6 S5 => (Yd_let fun x6_7 => (Yd_let fun x7_8 => Yd_rec))))))
theorem zd_constructors_p66 {d : Nat} {x1 : Int} {x2 : Int} {y0 : Int} {y1 : Int} {y2 : Int} {y3 : Int} {S : ZS} : Yd (fun R => zb_constructors_p66 R d x1 x2 y0 y1 y2 y3 S) := by
  unfold zb_constructors_p66
  exact (Yd_I Yd_c fun v2 S1 => (Yd_let fun x7_3 => (Yd_if (Yd_let fun x1_4 => Yd_rec) (Yd_zs fun S5 => Yd_rec))))
theorem zd_infixes_p76 {d : Nat} {x1 : Int} {x2 : Int} {x3 : Int} {S : ZS} : Yd (fun R => zb_infixes_p76 R d x1 x2 x3 S) := by
  unfold zb_infixes_p76
  exact (Yd_if (Yd_if (Yd_V Yd_c fun S1 => (Yd_V Yd_c fun S2 => Yd_rec)) (Yd_V Yd_c fun S3 => (Yd_V Yd_c fun S4 => Yd_rec))) (Yd_I Yd_c fun v6 S5 => Yd_k))
theorem zd_found_p85 {d : Nat} {x1 : Int} {x2 : Int} {x3 : Int} {S : ZS} : Yd (fun R => zb_found_p85 R d x1 x2 x3 S) := by
  unfold zb_found_p85
  exact (Yd_za fun v1 => (Yd_za fun v2 => (Yd_I Yd_c fun v4 S3 => (Yd_zs fun S5 => (Yd_za fun v6 => (Yd_if (Yd_if (Yd_zs fun S7 => Yd_k) (Yd_zs fun S8 => Yd_k)) (Yd_zs fun S9 => Yd_k)))))))
theorem zd_readSign_p164 {d : Nat} {x1 : Int} {x2 : Int} {x3 : Int} {x4 : Int} {x5 : Int} {x6 : Int} {x7 : Int} {S : ZS} : Yd (fun R => zb_readSign_p164 R d x1 x2 x3 x4 x5 x6 x7 S) := by
  unfold zb_readSign_p164
  exact (Yd_if (Yd_let fun x8_1 => (Yd_if Yd_rec (Yd_za fun v2 => (Yd_let fun x8_3 => (Yd_G (Yd_zp fun S4 => Yd_rec)))))) (Yd_if Yd_rec Yd_rec))
theorem zd_copied_p81 {d : Nat} {x1 : Int} {x3 : Int} {x4 : Int} {x5 : Int} {S : ZS} : Yd (fun R => zb_copied_p81 R d x1 x3 x4 x5 S) := by
  unfold zb_copied_p81
  exact (Yd_if (Yd_za fun v1 => (Yd_za fun v2 => (Yd_za fun v3 => (Yd_za fun v4 => (Yd_I Yd_c fun v6 S5 => Yd_k))))) (Yd_za fun v7 => (Yd_za fun v8 => (Yd_I Yd_c fun v10 S9 => (Yd_za fun v11 => (Yd_I Yd_c fun v13 S12 => (Yd_let fun x6_14 => (Yd_if (Yd_let fun x3_15 => Yd_rec) (Yd_zs fun S16 => Yd_rec)))))))))
theorem zd_merge_p83 {d : Nat} {x1 : Int} {x2 : Int} {y0 : Int} {S : ZS} : Yd (fun R => zb_merge_p83 R d x1 x2 y0 S) := by
  unfold zb_merge_p83
  exact (Yd_let fun x3_1 => (Yd_if Yd_rec Yd_rec))
theorem zd_mergeRows_p99 {d : Nat} {x1 : Int} {x2 : Int} {x3 : Int} {x4 : Int} {x5 : Int} {S : ZS} : Yd (fun R => zb_mergeRows_p99 R d x1 x2 x3 x4 x5 S) := by
  unfold zb_mergeRows_p99
  exact (Yd_if (Yd_za fun v1 => (Yd_za fun v2 => (Yd_I Yd_c fun v4 S3 => (Yd_let fun x5_5 => (Yd_za fun v6 => (Yd_za fun v7 => (Yd_I Yd_c fun v9 S8 => (Yd_let fun x6_10 => (Yd_V Yd_c fun S11 => (Yd_zs fun S12 => (Yd_if Yd_rec (Yd_if Yd_rec Yd_rec)))))))))))) (Yd_if (Yd_za fun v13 => (Yd_za fun v14 => (Yd_I Yd_c fun v16 S15 => (Yd_if Yd_k (Yd_za fun v17 => (Yd_let fun x5_18 => Yd_rec)))))) (Yd_za fun v19 => (Yd_let fun x5_20 => Yd_rec))))
theorem zd_allFields_p48 {d : Nat} {x3 : Int} {x4 : Int} {x5 : Int} {x6 : Int} {x7 : Int} {S : ZS} : Yd (fun R => zb_allFields_p48 R d x3 x4 x5 x6 x7 S) := by
  unfold zb_allFields_p48
  exact (Yd_if Yd_k Yd_rec)
theorem zd_isEndless_p191 {d : Nat} {x2 : Int} {x4 : Int} {S : ZS} : Yd (fun R => zb_isEndless_p191 R d x2 x4 S) := by
  unfold zb_isEndless_p191
  exact (Yd_zs fun S1 => (Yd_zs fun S2 => (Yd_za fun v3 => (Yd_zs fun S4 => (Yd_G (Yd_let fun x2_5 => Yd_rec))))))
theorem zd_toldVariable_p63 {d : Nat} {x1 : Int} {S : ZS} : Yd (fun R => zb_toldVariable_p63 R d x1 S) := by
  unfold zb_toldVariable_p63
  exact (Yd_za fun v1 => Yd_k)
theorem zd_toldOne_p66 {d : Nat} {x1 : Int} {x2 : Int} {x3 : Int} {x5 : Int} {x6 : Int} {x7 : Int} {S : ZS} : Yd (fun R => zb_toldOne_p66 R d x1 x2 x3 x5 x6 x7 S) := by
  unfold zb_toldOne_p66
  exact (Yd_let fun x4_1 => (Yd_G (Yd_let fun x5_2 => (Yd_za fun v3 => (Yd_let fun x6_4 => Yd_rec)))))
theorem zd_judgedApplication_p51 {d : Nat} {x1 : Int} {x4 : Int} {x5 : Int} {x6 : Int} {x7 : Int} {S : ZS} : Yd (fun R => zb_judgedApplication_p51 R d x1 x4 x5 x6 x7 S) := by
  unfold zb_judgedApplication_p51
  exact (Yd_if (Yd_za fun v1 => (Yd_let fun x6_2 => (Yd_G (Yd_let fun x7_3 => Yd_rec)))) (Yd_I Yd_c fun v5 S4 => (Yd_let fun x7_6 => (Yd_I Yd_c fun v8 S7 => (Yd_let fun x8_9 => (Yd_za fun v10 => (Yd_let fun x9_11 => (Yd_I Yd_c fun v13 S12 => (Yd_let fun x10_14 => (Yd_I Yd_c fun v16 S15 => (Yd_za fun v17 => (Yd_za fun v18 => (Yd_V Yd_c fun S19 => (Yd_za fun v20 => (Yd_V Yd_c fun S21 => (Yd_let fun x4_22 => (Yd_G (Yd_let fun x5_23 => Yd_rec))))))))))))))))))
theorem zd_rules_p178 {d : Nat} {x4 : Int} {x5 : Int} {x6 : Int} {x7 : Int} {x9 : Int} {x10 : Int} {x13 : Int} {x14 : Int} {S : ZS} : Yd (fun R => zb_rules_p178 R d x4 x5 x6 x7 x9 x10 x13 x14 S) := by
  unfold zb_rules_p178
  exact (Yd_zpZ fun S1 => (Yd_zpZ fun S2 => (Yd_zp fun S3 => (Yd_za fun v4 => (Yd_I Yd_c fun v6 S5 => (Yd_J Yd_c fun v8 S7 => (Yd_let fun x7_9 => (Yd_za fun v10 => (Yd_let fun x9_11 => Yd_rec)))))))))
theorem zd_through_p102 {d : Nat} {x2 : Int} {x3 : Int} {x5 : Int} {S : ZS} : Yd (fun R => zb_through_p102 R d x2 x3 x5 S) := by
  unfold zb_through_p102
  exact (Yd_za fun v1 => (Yd_let fun x4_2 => (Yd_G (Yd_let fun x5_3 => Yd_rec))))
theorem zd_through_p135 {d : Nat} {x2 : Int} {x3 : Int} {x5 : Int} {S : ZS} : Yd (fun R => zb_through_p135 R d x2 x3 x5 S) := by
  unfold zb_through_p135
  exact (Yd_if (Yd_za fun v1 => (Yd_zs fun S2 => (Yd_za fun v3 => (Yd_za fun v4 => (Yd_za fun v5 => (Yd_I Yd_c fun v7 S6 => (Yd_if (Yd_zs fun S8 => (Yd_G (Yd_let fun x5_9 => Yd_rec))) (Yd_zs fun S10 => (Yd_G (Yd_let fun x5_11 => Yd_rec)))))))))) (Yd_zp fun S12 => (Yd_let fun x5_13 => Yd_rec)))
theorem zd_markRim_p70 {d : Nat} {x3 : Int} {S : ZS} : Yd (fun R => zb_markRim_p70 R d x3 S) := by
  unfold zb_markRim_p70
  exact (Yd_if (Yd_za fun v1 => (Yd_if (Yd_G (Yd_let fun x3_2 => Yd_rec)) (Yd_za fun v3 => (Yd_V Yd_c fun S4 => (Yd_G (Yd_let fun x3_5 => Yd_rec)))))) (Yd_let fun x3_6 => Yd_rec))
theorem zd_generalise_p128 {d : Nat} {x3 : Int} {x5 : Int} {S : ZS} : Yd (fun R => zb_generalise_p128 R d x3 x5 S) := by
  unfold zb_generalise_p128
  exact (Yd_if Yd_rec (Yd_za fun v1 => (Yd_I Yd_c fun v3 S2 => (Yd_let fun x6_4 => (Yd_za fun v5 => (Yd_if (Yd_za fun v6 => (Yd_let fun x5_7 => Yd_rec)) (Yd_zs fun S8 => (Yd_zs fun S9 => (Yd_G (Yd_let fun x3_10 => (Yd_za fun v11 => (Yd_let fun x5_12 => Yd_rec))))))))))))
theorem zd_judgedRec_p266 {d : Nat} {x2 : Int} {x3 : Int} {x4 : Int} {x5 : Int} {x6 : Int} {x8 : Int} {S : ZS} : Yd (fun R => zb_judgedRec_p266 R d x2 x3 x4 x5 x6 x8 S) := by
  unfold zb_judgedRec_p266
  exact (Yd_if (Yd_zp fun S1 => (Yd_zp fun S2 => (Yd_V Yd_c fun S3 => (Yd_zp fun S4 => (Yd_V Yd_c fun S5 => Yd_k))))) (Yd_za fun v6 => (Yd_za fun v7 => (Yd_if (Yd_za fun v8 => (Yd_I Yd_c fun v10 S9 => (Yd_let fun x9_11 => (Yd_za fun v12 => (Yd_za fun v13 => (Yd_za fun v14 => (Yd_V Yd_c fun S15 => (Yd_za fun v16 => (Yd_let fun x8_17 => Yd_rec))))))))) (Yd_za fun v18 => (Yd_za fun v19 => Yd_k))))))
theorem zd_judgedFun_p194 {d : Nat} {x2 : Int} {x3 : Int} {x4 : Int} {x5 : Int} {x6 : Int} {x8 : Int} {x9 : Int} {S : ZS} : Yd (fun R => zb_judgedFun_p194 R d x2 x3 x4 x5 x6 x8 x9 S) := by
  unfold zb_judgedFun_p194
  exact (Yd_if (Yd_zp fun S1 => (Yd_zp fun S2 => (Yd_V Yd_c fun S3 => (Yd_zp fun S4 => (Yd_V Yd_c fun S5 => Yd_k))))) (Yd_za fun v6 => (Yd_V Yd_c fun S7 => (Yd_G (Yd_let fun x8_8 => (Yd_za fun v9 => (Yd_let fun x9_10 => Yd_rec)))))))
theorem zd_judgedFunction_p274 {d : Nat} {x1 : Int} {x2 : Int} {x3 : Int} {x10 : Int} {x14 : Int} {x15 : Int} {S : ZS} : Yd (fun R => zb_judgedFunction_p274 R d x1 x2 x3 x10 x14 x15 S) := by
  unfold zb_judgedFunction_p274
  exact (Yd_if (Yd_zp fun S1 => (Yd_za fun v2 => (Yd_za fun v3 => (Yd_V Yd_c fun S4 => (Yd_V Yd_c fun S5 => Yd_k))))) (Yd_za fun v6 => (Yd_I Yd_c fun v8 S7 => (Yd_let fun x14_9 => (Yd_G (Yd_let fun x15_10 => Yd_rec))))))
theorem zd_judgedFunction_p161 {d : Nat} {x1 : Int} {x2 : Int} {x3 : Int} {x4 : Int} {x5 : Int} {x6 : Int} {x7 : Int} {x8 : Int} {x9 : Int} {x10 : Int} {x11 : Int} {x12 : Int} {x14 : Int} {x15 : Int} {x16 : Int} {S : ZS} : Yd (fun R => zb_judgedFunction_p161 R d x1 x2 x3 x4 x5 x6 x7 x8 x9 x10 x11 x12 x14 x15 x16 S) := by
  unfold zb_judgedFunction_p161
  exact (Yd_if (Yd_za fun v1 => (Yd_J Yd_c fun v3 S2 => (Yd_let fun x12_4 => (Yd_za fun v5 => (Yd_let fun x14_6 => Yd_rec))))) (Yd_I Yd_c fun v8 S7 => (Yd_G (Yd_let fun x15_9 => (Yd_za fun v10 => (Yd_let fun x16_11 => Yd_rec))))))
theorem zd_judgedClause_p249 {d : Nat} {x2 : Int} {x5 : Int} {x8 : Int} {y0 : Int} {S : ZS} : Yd (fun R => zb_judgedClause_p249 R d x2 x5 x8 y0 S) := by
  unfold zb_judgedClause_p249
  exact (Yd_let fun x12_1 => (Yd_za fun v2 => (Yd_I Yd_c fun v4 S3 => (Yd_let fun x13_5 => (Yd_if Yd_rec (Yd_za fun v6 => (Yd_za fun v7 => (Yd_V Yd_c fun S8 => Yd_rec))))))))
theorem zd_judgedClause_p196 {d : Nat} {x1 : Int} {x2 : Int} {x5 : Int} {x6 : Int} {x8 : Int} {x9 : Int} {x10 : Int} {x11 : Int} {x12 : Int} {S : ZS} : Yd (fun R => zb_judgedClause_p196 R d x1 x2 x5 x6 x8 x9 x10 x11 x12 S) := by
  unfold zb_judgedClause_p196
  exact (Yd_G (Yd_let fun x11_1 => (Yd_za fun v2 => (Yd_let fun x12_3 => Yd_rec))))
theorem zd_lengthOf_fNext_p4 {d : Nat} {x2 : Int} {x3 : Int} {S : ZS} : Yd (fun R => zb_lengthOf_fNext_p4 R d x2 x3 S) := by
  unfold zb_lengthOf_fNext_p4
  exact (Yd_if Yd_k (Yd_G (Yd_let fun x2_1 => (Yd_za fun v2 => (Yd_let fun x3_3 => Yd_rec)))))
theorem zd_listed_p97 {d : Nat} {x2 : Int} {x3 : Int} {x4 : Int} {x5 : Int} {y0 : Int} {y1 : Int} {y2 : Int} {y3 : Int} {y4 : Int} {S : ZS} : Yd (fun R => zb_listed_p97 R d x2 x3 x4 x5 y0 y1 y2 y3 y4 S) := by
  unfold zb_listed_p97
  exact (Yd_I Yd_c fun v2 S1 => (Yd_let fun x6_3 => (Yd_za fun v4 => (Yd_zs fun S5 => (Yd_zs fun S6 => (Yd_G (Yd_zp fun S7 => (Yd_I Yd_c fun v9 S8 => (Yd_let fun x7_10 => (Yd_if (Yd_let fun x2_11 => Yd_rec) (Yd_zs fun S12 => Yd_rec)))))))))))
theorem zd_judgedData_p277 {d : Nat} {x1 : Int} {x2 : Int} {x3 : Int} {x4 : Int} {x6 : Int} {x7 : Int} {S : ZS} : Yd (fun R => zb_judgedData_p277 R d x1 x2 x3 x4 x6 x7 S) := by
  unfold zb_judgedData_p277
  exact (Yd_if (Yd_let fun x7_1 => Yd_rec) (Yd_V Yd_c fun S2 => (Yd_za fun v3 => (Yd_let fun x7_4 => Yd_rec))))
theorem zd_judgedCons_p180 {d : Nat} {x2 : Int} {x3 : Int} {x4 : Int} {x5 : Int} {y0 : Int} {S : ZS} : Yd (fun R => zb_judgedCons_p180 R d x2 x3 x4 x5 y0 S) := by
  unfold zb_judgedCons_p180
  exact (Yd_let fun x6_1 => (Yd_if (Yd_let fun x7_2 => (Yd_let fun x8_3 => (Yd_let fun x9_4 => Yd_rec))) (Yd_I Yd_c fun v6 S5 => (Yd_if (Yd_let fun x7_7 => (Yd_let fun x8_8 => (Yd_let fun x9_9 => Yd_rec))) (Yd_za fun v10 => Yd_k)))))
theorem zd_admits_p100 {d : Nat} {x3 : Int} {x4 : Int} {S : ZS} : Yd (fun R => zb_admits_p100 R d x3 x4 S) := by
  unfold zb_admits_p100
  exact (Yd_za fun v1 => (Yd_if (Yd_za fun v2 => (Yd_if Yd_rec (Yd_za fun v3 => (Yd_let fun x5_4 => Yd_rec)))) (Yd_za fun v5 => (Yd_let fun x5_6 => Yd_rec))))
theorem zd_judgedException_p144 {d : Nat} {x1 : Int} {x3 : Int} {x4 : Int} {y0 : Int} {y1 : Int} {y2 : Int} {S : ZS} : Yd (fun R => zb_judgedException_p144 R d x1 x3 x4 y0 y1 y2 S) := by
  unfold zb_judgedException_p144
  exact (Yd_G (Yd_zs fun S1 => (Yd_I Yd_c fun v3 S2 => (Yd_zs fun S4 => (Yd_zs fun S5 => (Yd_za fun v6 => (Yd_if (Yd_I Yd_c fun v8 S7 => Yd_rec) (Yd_I Yd_c fun v10 S9 => (Yd_I Yd_c fun v12 S11 => Yd_rec)))))))))
theorem zd_linked_vBefore {d : Nat} {x1 : Int} {x2 : Int} {x3 : Int} {S : ZS} : Yd (fun R => zb_linked_vBefore R d x1 x2 x3 S) := by
  unfold zb_linked_vBefore
  exact (Yd_if Yd_k (Yd_let fun x4_1 => Yd_rec))
theorem zd_linked_tBefore {d : Nat} {x1 : Int} {x2 : Int} {x3 : Int} {S : ZS} : Yd (fun R => zb_linked_tBefore R d x1 x2 x3 S) := by
  unfold zb_linked_tBefore
  exact (Yd_if Yd_k (Yd_let fun x4_1 => Yd_rec))
theorem zd_finish_p92 {d : Nat} {x2 : Int} {S : ZS} : Yd (fun R => zb_finish_p92 R d x2 S) := by
  unfold zb_finish_p92
  exact (Yd_za fun v1 => (Yd_let fun x1_2 => (Yd_G (Yd_let fun x2_3 => Yd_rec))))
theorem zd_finish_p183 {d : Nat} {x2 : Int} {S : ZS} : Yd (fun R => zb_finish_p183 R d x2 S) := by
  unfold zb_finish_p183
  exact (Yd_if (Yd_za fun v1 => (Yd_if (Yd_za fun v2 => (Yd_za fun v3 => (Yd_I Yd_c fun v5 S4 => (Yd_if (Yd_G (Yd_let fun x2_6 => Yd_rec)) (Yd_za fun v7 => (Yd_za fun v8 => Yd_k)))))) (Yd_G (Yd_let fun x2_9 => Yd_rec)))) (Yd_zs fun S10 => Yd_k))
theorem zd_hasUnknown_p108 {d : Nat} {x3 : Int} {x5 : Int} {S : ZS} : Yd (fun R => zb_hasUnknown_p108 R d x3 x5 S) := by
  unfold zb_hasUnknown_p108
  exact (Yd_if Yd_rec (Yd_za fun v1 => (Yd_I Yd_c fun v3 S2 => (Yd_let fun x6_4 => (Yd_za fun v5 => (Yd_if (Yd_za fun v6 => (Yd_let fun x5_7 => Yd_rec)) (Yd_zs fun S8 => (Yd_zs fun S9 => (Yd_G (Yd_let fun x3_10 => (Yd_za fun v11 => (Yd_let fun x5_12 => Yd_rec))))))))))))
theorem zd_noteAll_p305 {d : Nat} {x1 : Int} {x2 : Int} {x3 : Int} {x4 : Int} {x5 : Int} {x6 : Int} {x7 : Int} {S : ZS} : Yd (fun R => zb_noteAll_p305 R d x1 x2 x3 x4 x5 x6 x7 S) := by
  unfold zb_noteAll_p305
  exact (Yd_if (Yd_zs fun S1 => (Yd_G (Yd_let fun x7_2 => Yd_rec))) (Yd_G (Yd_zp fun S3 => (Yd_if (Yd_G (Yd_let fun x1_4 => Yd_rec)) (Yd_I Yd_c fun v6 S5 => (Yd_if (Yd_G (Yd_let fun x1_7 => Yd_rec)) (Yd_if Yd_rec Yd_rec)))))))
theorem zd_noteAll_p241 {d : Nat} {x1 : Int} {x2 : Int} {x3 : Int} {x4 : Int} {x5 : Int} {x6 : Int} {S : ZS} : Yd (fun R => zb_noteAll_p241 R d x1 x2 x3 x4 x5 x6 S) := by
  unfold zb_noteAll_p241
  exact (Yd_if (Yd_G (Yd_I Yd_c fun v2 S1 => (Yd_if (Yd_za fun v3 => (Yd_za fun v4 => (Yd_V Yd_c fun S5 => (Yd_G (Yd_let fun x6_6 => Yd_rec))))) (Yd_G (Yd_let fun x6_7 => Yd_rec))))) (Yd_let fun x6_8 => (Yd_let fun x7_9 => Yd_rec)))
theorem zd_lengthOf_next_p4 {d : Nat} {x2 : Int} {x3 : Int} {S : ZS} : Yd (fun R => zb_lengthOf_next_p4 R d x2 x3 S) := by
  unfold zb_lengthOf_next_p4
  exact (Yd_if Yd_k (Yd_G (Yd_let fun x2_1 => (Yd_za fun v2 => (Yd_let fun x3_3 => Yd_rec)))))
theorem zd_noteAll_p114 {d : Nat} {x1 : Int} {x2 : Int} {x3 : Int} {x4 : Int} {x5 : Int} {x6 : Int} {x7 : Int} {x8 : Int} {S : ZS} : Yd (fun R => zb_noteAll_p114 R d x1 x2 x3 x4 x5 x6 x7 x8 S) := by
  unfold zb_noteAll_p114
  exact (Yd_if (Yd_G (Yd_let fun x4_1 => (Yd_za fun v2 => (Yd_let fun x6_3 => Yd_rec)))) (Yd_zs fun S4 => (Yd_G (Yd_let fun x7_5 => (Yd_za fun v6 => (Yd_let fun x8_7 => Yd_rec))))))
theorem zd_usefulHere_p172 {d : Nat} {x1 : Int} {S : ZS} : Yd (fun R => zb_usefulHere_p172 R d x1 S) := by
  unfold zb_usefulHere_p172
  exact (Yd_V Yd_c fun S1 => (Yd_V Yd_c fun S2 => Yd_rec))
theorem zd_rowStep_p101 {d : Nat} {x1 : Int} {x2 : Int} {x3 : Int} {x4 : Int} {x5 : Int} {x6 : Int} {S : ZS} : Yd (fun R => zb_rowStep_p101 R d x1 x2 x3 x4 x5 x6 S) := by
  unfold zb_rowStep_p101
  exact (Yd_if (Yd_za fun v1 => (Yd_I Yd_c fun v3 S2 => (Yd_zs fun S4 => (Yd_G (Yd_let fun x6_5 => Yd_rec))))) (Yd_let fun x6_6 => Yd_rec))
theorem zd_narrowed_p130 {d : Nat} {x1 : Int} {x2 : Int} {x3 : Int} {x4 : Int} {x5 : Int} {x6 : Int} {x7 : Int} {x9 : Int} {x10 : Int} {S : ZS} : Yd (fun R => zb_narrowed_p130 R d x1 x2 x3 x4 x5 x6 x7 x9 x10 S) := by
  unfold zb_narrowed_p130
  exact (Yd_if (Yd_za fun v1 => (Yd_zs fun S2 => (Yd_G (Yd_let fun x10_3 => Yd_rec)))) (Yd_G (Yd_let fun x4_4 => (Yd_G (Yd_let fun x6_5 => Yd_rec)))))
theorem zd_runAll_p73 {d : Nat}  {S : ZS} : Yd (fun R => zb_runAll_p73 R d  S) := by
  unfold zb_runAll_p73
  exact (Yd_if (Yd_V Yd_c fun S1 => Yd_rec) Yd_rec)
theorem zd_areEqual_p149 {d : Nat} {x5 : Int} {x6 : Int} {x8 : Int} {x10 : Int} {S : ZS} : Yd (fun R => zb_areEqual_p149 R d x5 x6 x8 x10 S) := by
  unfold zb_areEqual_p149
  exact (Yd_if (Yd_I Yd_c fun v2 S1 => (Yd_if Yd_rec Yd_k)) (Yd_if Yd_rec Yd_k))
theorem zd_areEqual_p226 {d : Nat} {x5 : Int} {S : ZS} : Yd (fun R => zb_areEqual_p226 R d x5 S) := by
  unfold zb_areEqual_p226
  exact (Yd_let fun x6_1 => (Yd_let fun x8_2 => Yd_rec))
theorem zd_digitsOf_p87 {d : Nat} {x3 : Int} {x6 : Int} {x8 : Int} {S : ZS} : Yd (fun R => zb_digitsOf_p87 R d x3 x6 x8 S) := by
  unfold zb_digitsOf_p87
  exact (Yd_if Yd_k (Yd_G (Yd_V Yd_c fun S2 => (Yd_let fun x6_3 => Yd_rec))))
theorem zd_body_p113 {d : Nat} {x2 : Int} {x4 : Int} {S : ZS} : Yd (fun R => zb_body_p113 R d x2 x4 S) := by
  unfold zb_body_p113
  exact (Yd_if (Yd_za fun v1 => (Yd_let fun x2_2 => Yd_rec)) (Yd_za fun v3 => (Yd_V Yd_c fun S4 => Yd_k)))
theorem zd_rowOf_p112 {d : Nat} {x3 : Int} {x4 : Int} {x5 : Int} {x6 : Int} {x7 : Int} {S : ZS} : Yd (fun R => zb_rowOf_p112 R d x3 x4 x5 x6 x7 S) := by
  unfold zb_rowOf_p112
  exact (Yd_zaL fun v1 => (Yd_zsL fun S2 => (Yd_G (Yd_let fun x5_3 => (Yd_za fun v4 => (Yd_let fun x6_5 => Yd_rec))))))
theorem zd_rowOf_p75 {d : Nat} {x3 : Int} {x4 : Int} {x5 : Int} {x6 : Int} {x7 : Int} {S : ZS} : Yd (fun R => zb_rowOf_p75 R d x3 x4 x5 x6 x7 S) := by
  unfold zb_rowOf_p75
  exact (Yd_zaL fun v1 => (Yd_za fun v2 => (Yd_za fun v3 => (Yd_za fun v4 => (Yd_if Yd_rec (Yd_G (Yd_let fun x7_5 => Yd_rec)))))))
theorem zd_shapeOf_p104 {d : Nat} {x1 : Int} {x2 : Int} {x3 : Int} {x4 : Int} {S : ZS} : Yd (fun R => zb_shapeOf_p104 R d x1 x2 x3 x4 S) := by
  unfold zb_shapeOf_p104
  exact (Yd_za fun v1 => (Yd_zs fun S2 => (Yd_G (Yd_let fun x2_3 => (Yd_za fun v4 => (Yd_let fun x3_5 => Yd_rec))))))
theorem zd_keepBound_p273 {d : Nat} {x2 : Int} {x4 : Int} {S : ZS} : Yd (fun R => zb_keepBound_p273 R d x2 x4 S) := by
  unfold zb_keepBound_p273
  exact (Yd_za fun v1 => (Yd_if (Yd_za fun v2 => (Yd_zp fun S3 => (Yd_za fun v4 => (Yd_let fun x3_5 => (Yd_G (Yd_let fun x4_6 => Yd_rec)))))) (Yd_zs fun S7 => (Yd_G (Yd_let fun x2_8 => (Yd_za fun v9 => (Yd_let fun x4_10 => Yd_rec)))))))
theorem zd_keepBound_p96 {d : Nat} {x1 : Int} {x2 : Int} {x3 : Int} {S : ZS} : Yd (fun R => zb_keepBound_p96 R d x1 x2 x3 S) := by
  unfold zb_keepBound_p96
  exact (Yd_za fun v1 => (Yd_zs fun S2 => (Yd_G (Yd_let fun x2_3 => (Yd_za fun v4 => (Yd_let fun x3_5 => Yd_rec))))))
theorem zd_keepInfix_p69 {d : Nat} {x1 : Int} {x2 : Int} {x3 : Int} {S : ZS} : Yd (fun R => zb_keepInfix_p69 R d x1 x2 x3 S) := by
  unfold zb_keepInfix_p69
  exact (Yd_if (Yd_zs fun S1 => (Yd_G (Yd_let fun x1_2 => (Yd_za fun v3 => (Yd_let fun x2_4 => Yd_rec))))) (Yd_za fun v5 => (Yd_let fun x2_6 => Yd_rec)))
theorem zd_keepTypes_p98 {d : Nat} {x2 : Int} {x3 : Int} {x4 : Int} {x5 : Int} {x6 : Int} {x7 : Int} {S : ZS} : Yd (fun R => zb_keepTypes_p98 R d x2 x3 x4 x5 x6 x7 S) := by
  unfold zb_keepTypes_p98
  exact (Yd_if (Yd_za fun v1 => (Yd_zs fun S2 => (Yd_G (Yd_let fun x7_3 => Yd_rec)))) (Yd_G (Yd_zs fun S4 => (Yd_G (Yd_let fun x2_5 => (Yd_G (Yd_let fun x3_6 => Yd_rec)))))))
theorem zd_noteLines_p116 {d : Nat} {x1 : Int} {x2 : Int} {y0 : Int} {y1 : Int} {S : ZS} : Yd (fun R => zb_noteLines_p116 R d x1 x2 y0 y1 S) := by
  unfold zb_noteLines_p116
  exact (Yd_zs fun S1 => (Yd_za fun v2 => (Yd_zs fun S3 => (Yd_G (Yd_let fun x1_4 => Yd_rec)))))
theorem zd_sayInt_p50 {d : Nat} {x3 : Int} {x5 : Int} {S : ZS} : Yd (fun R => zb_sayInt_p50 R d x3 x5 S) := by
  unfold zb_sayInt_p50
  exact (Yd_if Yd_k (Yd_G (Yd_V Yd_c fun S2 => (Yd_let fun x5_3 => Yd_rec))))
theorem zd_sayRow_p102 {d : Nat} {x1 : Int} {x3 : Int} {x4 : Int} {x5 : Int} {x6 : Int} {S : ZS} : Yd (fun R => zb_sayRow_p102 R d x1 x3 x4 x5 x6 S) := by
  unfold zb_sayRow_p102
  exact (Yd_if (Yd_I Yd_c fun v2 S1 => (Yd_V Yd_c fun S3 => (Yd_V Yd_c fun S4 => Yd_rec))) Yd_rec)
theorem zd_sayType_p93 {d : Nat} {x2 : Int} {x3 : Int} {x4 : Int} {x5 : Int} {S : ZS} : Yd (fun R => zb_sayType_p93 R d x2 x3 x4 x5 S) := by
  unfold zb_sayType_p93
  exact (Yd_if Yd_rec (Yd_if Yd_rec Yd_rec))
theorem zd_sayType_p108 {d : Nat} {x3 : Int} {x4 : Int} {x5 : Int} {y0 : Int} {S : ZS} : Yd (fun R => zb_sayType_p108 R d x3 x4 x5 y0 S) := by
  unfold zb_sayType_p108
  exact (Yd_let fun x6_1 => (Yd_if Yd_rec (Yd_V Yd_c fun S2 => Yd_rec)))
theorem zd_sayVariable_p54 {d : Nat} {x1 : Int} {x2 : Int} {S : ZS} : Yd (fun R => zb_sayVariable_p54 R d x1 x2 S) := by
  unfold zb_sayVariable_p54
  exact (Yd_if (Yd_za fun v1 => (Yd_if (Yd_V Yd_c fun S2 => (Yd_if Yd_rec (Yd_G (Yd_V Yd_c fun S3 => Yd_rec)))) (Yd_V Yd_c fun S4 => (Yd_if Yd_rec (Yd_G (Yd_V Yd_c fun S5 => Yd_rec)))))) (Yd_let fun x3_6 => (Yd_let fun x4_7 => Yd_rec)))
theorem zd_sayRowType_p128 {d : Nat} {x1 : Int} {x2 : Int} {x3 : Int} {x5 : Int} {y0 : Int} {S : ZS} : Yd (fun R => zb_sayRowType_p128 R d x1 x2 x3 x5 y0 S) := by
  unfold zb_sayRowType_p128
  exact (Yd_let fun x4_1 => (Yd_if Yd_rec (Yd_if (Yd_V Yd_c fun S2 => Yd_rec) Yd_rec)))
theorem zd_sayRowType_p76 {d : Nat} {x1 : Int} {x2 : Int} {x3 : Int} {x5 : Int} {x6 : Int} {x7 : Int} {S : ZS} : Yd (fun R => zb_sayRowType_p76 R d x1 x2 x3 x5 x6 x7 S) := by
  unfold zb_sayRowType_p76
  exact (Yd_if Yd_rec (Yd_za fun v1 => (Yd_I Yd_c fun v3 S2 => (Yd_if (Yd_za fun v4 => (Yd_let fun x6_5 => Yd_rec)) Yd_rec))))
theorem zd_sayMadeType_p71 {d : Nat} {x1 : Int} {x2 : Int} {x3 : Int} {S : ZS} : Yd (fun R => zb_sayMadeType_p71 R d x1 x2 x3 S) := by
  unfold zb_sayMadeType_p71
  exact (Yd_za fun v1 => (Yd_V Yd_c fun S2 => (Yd_za fun v3 => (Yd_let fun x3_4 => Yd_rec))))
theorem zd_sayVars_p55 {d : Nat} {x1 : Int} {x2 : Int} {x3 : Int} {S : ZS} : Yd (fun R => zb_sayVars_p55 R d x1 x2 x3 S) := by
  unfold zb_sayVars_p55
  exact (Yd_za fun v1 => (Yd_V Yd_c fun S2 => (Yd_za fun v3 => (Yd_let fun x3_4 => Yd_rec))))
theorem zd_sign0_p304 {d : Nat} {y0 : Int} {y1 : Int} {y2 : Int} {y3 : Int} {S : ZS} : Yd (fun R => zb_sign0_p304 R d y0 y1 y2 y3 S) := by
  unfold zb_sign0_p304
  exact (Yd_G (Yd_zs fun S1 => (Yd_G (Yd_zp fun S2 => Yd_k))))
theorem zd_gaps_p174 {d : Nat} {x1 : Int} {x2 : Int} {S : ZS} : Yd (fun R => zb_gaps_p174 R d x1 x2 S) := by
  unfold zb_gaps_p174
  exact (Yd_G (Yd_zp fun S1 => Yd_rec))
theorem zd_nameAt_text_p193 {d : Nat} {x2 : Int} {x3 : Int} {x5 : Int} {S : ZS} : Yd (fun R => zb_nameAt_text_p193 R d x2 x3 x5 S) := by
  unfold zb_nameAt_text_p193
  exact (Yd_if (Yd_za fun v1 => (Yd_zs fun S2 => (Yd_G (Yd_let fun x5_3 => Yd_rec)))) (Yd_G (Yd_zp fun S4 => (Yd_G (Yd_zp fun S5 => (Yd_G Yd_k))))))
theorem zd_nameAt_text_p72 {d : Nat} {x2 : Int} {x3 : Int} {x4 : Int} {x5 : Int} {x6 : Int} {x7 : Int} {S : ZS} : Yd (fun R => zb_nameAt_text_p72 R d x2 x3 x4 x5 x6 x7 S) := by
  unfold zb_nameAt_text_p72
  exact (Yd_if (Yd_if Yd_rec (Yd_za fun v1 => (Yd_za fun v2 => (Yd_za fun v3 => (Yd_if (Yd_let fun x6_4 => (Yd_G (Yd_let fun x7_5 => Yd_rec))) (Yd_let fun x6_6 => (Yd_G (Yd_let fun x7_7 => Yd_rec)))))))) Yd_rec)
theorem zd_readInt_p121 {d : Nat} {x1 : Int} {y0 : Int} {S : ZS} : Yd (fun R => zb_readInt_p121 R d x1 y0 S) := by
  unfold zb_readInt_p121
  exact (Yd_zp fun S1 => (Yd_if (Yd_zp fun S2 => (Yd_zp fun S3 => Yd_k)) (Yd_zp fun S4 => (Yd_zp fun S5 => Yd_k))))
theorem zd_readString_p180 {d : Nat} {x1 : Int} {y0 : Int} {S : ZS} : Yd (fun R => zb_readString_p180 R d x1 y0 S) := by
  unfold zb_readString_p180
  exact (Yd_zp fun S1 => (Yd_if (Yd_zp fun S2 => Yd_k) (Yd_za fun v3 => (Yd_zp fun S4 => Yd_k))))
theorem zd_infixed_p105 {d : Nat} {x1 : Int} {x2 : Int} {x3 : Int} {x5 : Int} {S : ZS} : Yd (fun R => zb_infixed_p105 R d x1 x2 x3 x5 S) := by
  unfold zb_infixed_p105
  exact (Yd_I Yd_c fun v2 S1 => (Yd_I Yd_c fun v4 S3 => (Yd_if (Yd_I Yd_c fun v6 S5 => (Yd_I Yd_c fun v8 S7 => (Yd_if (Yd_I Yd_c fun v10 S9 => (Yd_if Yd_rec Yd_rec)) Yd_rec))) Yd_rec)))
theorem zd_clause_p208 {d : Nat} {x1 : Int} {x4 : Int} {x5 : Int} {x6 : Int} {y0 : Int} {S : ZS} : Yd (fun R => zb_clause_p208 R d x1 x4 x5 x6 y0 S) := by
  unfold zb_clause_p208
  exact (Yd_let fun x7_1 => (Yd_V Yd_c fun S2 => (Yd_I Yd_c fun v4 S3 => (Yd_let fun x8_5 => (Yd_I Yd_c fun v7 S6 => (Yd_let fun x9_8 => (Yd_I Yd_c fun v10 S9 => Yd_k)))))))
theorem zd_clause_p107 {d : Nat} {x1 : Int} {x4 : Int} {x5 : Int} {x6 : Int} {x7 : Int} {S : ZS} : Yd (fun R => zb_clause_p107 R d x1 x4 x5 x6 x7 S) := by
  unfold zb_clause_p107
  exact (Yd_I Yd_c fun v2 S1 => (Yd_if Yd_rec (Yd_I Yd_c fun v4 S3 => (Yd_zs fun S5 => (Yd_za fun v6 => (Yd_let fun x7_7 => Yd_rec))))))
theorem zd_constructors_p92 {d : Nat} {x1 : Int} {x7 : Int} {S : ZS} : Yd (fun R => zb_constructors_p92 R d x1 x7 S) := by
  unfold zb_constructors_p92
  exact (Yd_let fun x2_1 => (Yd_I Yd_c fun v3 S2 => (Yd_let fun x3_4 => Yd_rec)))
theorem zd_readSign_p200 {d : Nat} {x1 : Int} {x2 : Int} {x3 : Int} {x4 : Int} {x5 : Int} {x6 : Int} {x7 : Int} {x8 : Int} {S : ZS} : Yd (fun R => zb_readSign_p200 R d x1 x2 x3 x4 x5 x6 x7 x8 S) := by
  unfold zb_readSign_p200
  exact (Yd_I Yd_c fun v2 S1 => (Yd_I Yd_c fun v4 S3 => (Yd_let fun x9_5 => (Yd_if (Yd_let fun x5_6 => (Yd_let fun x6_7 => (Yd_G (Yd_let fun x7_8 => Yd_rec)))) (Yd_zs fun S9 => (Yd_let fun x6_10 => (Yd_G (Yd_let fun x7_11 => Yd_rec))))))))
theorem zd_readSign_p256 {d : Nat} {x2 : Int} {x3 : Int} {x5 : Int} {y0 : Int} {S : ZS} : Yd (fun R => zb_readSign_p256 R d x2 x3 x5 y0 S) := by
  unfold zb_readSign_p256
  exact (Yd_if (Yd_I Yd_c fun v2 S1 => Yd_k) (Yd_I Yd_c fun v4 S3 => Yd_k))
theorem zd_copied_p137 {d : Nat} {x1 : Int} {x3 : Int} {x5 : Int} {x6 : Int} {S : ZS} : Yd (fun R => zb_copied_p137 R d x1 x3 x5 x6 S) := by
  unfold zb_copied_p137
  exact (Yd_let fun x4_1 => (Yd_za fun v2 => (Yd_let fun x5_3 => Yd_rec)))
theorem zd_merge_p94 {d : Nat} {x3 : Int} {y0 : Int} {S : ZS} : Yd (fun R => zb_merge_p94 R d x3 y0 S) := by
  unfold zb_merge_p94
  exact (Yd_let fun x4_1 => (Yd_za fun v2 => (Yd_if (Yd_V Yd_c fun S3 => Yd_k) (Yd_I Yd_c fun v5 S4 => (Yd_if Yd_k (Yd_V Yd_c fun S6 => Yd_k))))))
theorem zd_mergeRows_p213 {d : Nat} {x2 : Int} {x3 : Int} {x4 : Int} {y0 : Int} {y1 : Int} {S : ZS} : Yd (fun R => zb_mergeRows_p213 R d x2 x3 x4 y0 y1 S) := by
  unfold zb_mergeRows_p213
  exact (Yd_zs fun S1 => (Yd_if Yd_rec (Yd_if Yd_rec Yd_k)))
theorem zd_allFields_p54 {d : Nat} {x3 : Int} {x4 : Int} {x5 : Int} {x6 : Int} {x7 : Int} {S : ZS} : Yd (fun R => zb_allFields_p54 R d x3 x4 x5 x6 x7 S) := by
  unfold zb_allFields_p54
  exact (Yd_if Yd_rec (Yd_za fun v1 => (Yd_za fun v2 => (Yd_if (Yd_let fun x5_3 => (Yd_za fun v4 => (Yd_let fun x6_5 => Yd_rec))) Yd_rec))))
theorem zd_through_p210 {d : Nat} {x5 : Int} {S : ZS} : Yd (fun R => zb_through_p210 R d x5 S) := by
  unfold zb_through_p210
  exact (Yd_if (Yd_za fun v1 => (Yd_if (Yd_za fun v2 => (Yd_V Yd_c fun S3 => (Yd_G (Yd_let fun x5_4 => Yd_rec)))) (Yd_G (Yd_let fun x5_5 => Yd_rec)))) Yd_k)
theorem zd_markRim_p106 {d : Nat} {x3 : Int} {S : ZS} : Yd (fun R => zb_markRim_p106 R d x3 S) := by
  unfold zb_markRim_p106
  exact (Yd_if (Yd_za fun v1 => (Yd_if (Yd_za fun v2 => (Yd_if (Yd_G (Yd_let fun x3_3 => Yd_rec)) (Yd_za fun v4 => (Yd_let fun x4_5 => Yd_rec)))) (Yd_G (Yd_let fun x3_6 => Yd_rec)))) Yd_k)
theorem zd_judgedClause_p293 {d : Nat} {x2 : Int} {x5 : Int} {x8 : Int} {x13 : Int} {S : ZS} : Yd (fun R => zb_judgedClause_p293 R d x2 x5 x8 x13 S) := by
  unfold zb_judgedClause_p293
  exact (Yd_let fun x14_1 => (Yd_if (Yd_let fun x14_2 => (Yd_zp fun S3 => Yd_k)) (Yd_za fun v4 => (Yd_za fun v5 => (Yd_V Yd_c fun S6 => (Yd_zp fun S7 => Yd_k))))))
theorem zd_listed_p171 {d : Nat} {x2 : Int} {x4 : Int} {x5 : Int} {x7 : Int} {S : ZS} : Yd (fun R => zb_listed_p171 R d x2 x4 x5 x7 S) := by
  unfold zb_listed_p171
  exact (Yd_let fun x3_1 => (Yd_G (Yd_let fun x4_2 => (Yd_za fun v3 => (Yd_let fun x5_4 => Yd_rec)))))
theorem zd_judgedData_p306 {d : Nat} {x1 : Int} {x2 : Int} {x3 : Int} {x4 : Int} {x6 : Int} {x7 : Int} {S : ZS} : Yd (fun R => zb_judgedData_p306 R d x1 x2 x3 x4 x6 x7 S) := by
  unfold zb_judgedData_p306
  exact (Yd_if (Yd_zp fun S1 => (Yd_zp fun S2 => (Yd_zp fun S3 => (Yd_za fun v4 => (Yd_let fun x8_5 => Yd_rec))))) (Yd_let fun x7_6 => (Yd_let fun x8_7 => Yd_rec)))
theorem zd_judgedCons_p228 {d : Nat} {x2 : Int} {x3 : Int} {x4 : Int} {x5 : Int} {x6 : Int} {x7 : Int} {x8 : Int} {x9 : Int} {S : ZS} : Yd (fun R => zb_judgedCons_p228 R d x2 x3 x4 x5 x6 x7 x8 x9 S) := by
  unfold zb_judgedCons_p228
  exact (Yd_if (Yd_I Yd_c fun v2 S1 => (Yd_let fun x9_3 => (Yd_let fun x10_4 => (Yd_G (Yd_zp fun S5 => (Yd_za fun v6 => (Yd_zs fun S7 => (Yd_if (Yd_G Yd_rec) (Yd_G Yd_rec))))))))) (Yd_za fun v8 => (Yd_za fun v9 => (Yd_I Yd_c fun v11 S10 => (Yd_let fun x10_12 => (Yd_if (Yd_let fun x7_13 => Yd_rec) (Yd_zs fun S14 => Yd_rec)))))))
theorem zd_admits_p135 {d : Nat} {x3 : Int} {x5 : Int} {S : ZS} : Yd (fun R => zb_admits_p135 R d x3 x5 S) := by
  unfold zb_admits_p135
  exact (Yd_if Yd_rec (Yd_za fun v1 => (Yd_I Yd_c fun v3 S2 => (Yd_let fun x6_4 => (Yd_za fun v5 => (Yd_if (Yd_za fun v6 => (Yd_let fun x5_7 => Yd_rec)) (Yd_zs fun S8 => (Yd_zs fun S9 => (Yd_G (Yd_let fun x3_10 => (Yd_za fun v11 => (Yd_let fun x5_12 => Yd_rec))))))))))))
theorem zd_judgedException_p195 {d : Nat} {x1 : Int} {x4 : Int} {y0 : Int} {y1 : Int} {y2 : Int} {S : ZS} : Yd (fun R => zb_judgedException_p195 R d x1 x4 y0 y1 y2 S) := by
  unfold zb_judgedException_p195
  exact (Yd_za fun v1 => (Yd_za fun v2 => (Yd_I Yd_c fun v4 S3 => (Yd_let fun x5_5 => (Yd_V Yd_c fun S6 => Yd_k)))))
theorem zd_linked_vBefore_p10 {d : Nat} {x1 : Int} {x2 : Int} {x3 : Int} {x4 : Int} {S : ZS} : Yd (fun R => zb_linked_vBefore_p10 R d x1 x2 x3 x4 S) := by
  unfold zb_linked_vBefore_p10
  exact (Yd_za fun v1 => (Yd_if (Yd_zs fun S2 => Yd_k) (Yd_za fun v3 => (Yd_let fun x4_4 => Yd_rec))))
theorem zd_linked_tBefore_p10 {d : Nat} {x1 : Int} {x2 : Int} {x3 : Int} {x4 : Int} {S : ZS} : Yd (fun R => zb_linked_tBefore_p10 R d x1 x2 x3 x4 S) := by
  unfold zb_linked_tBefore_p10
  exact (Yd_za fun v1 => (Yd_if (Yd_zs fun S2 => Yd_k) (Yd_za fun v3 => (Yd_let fun x4_4 => Yd_rec))))
theorem zd_noteAll_p372 {d : Nat} {x1 : Int} {x2 : Int} {x3 : Int} {y0 : Int} {S : ZS} : Yd (fun R => zb_noteAll_p372 R d x1 x2 x3 y0 S) := by
  unfold zb_noteAll_p372
  exact (Yd_if (Yd_za fun v1 => (Yd_za fun v2 => (Yd_V Yd_c fun S3 => (Yd_G (Yd_let fun x1_4 => Yd_rec))))) (Yd_if (Yd_za fun v5 => (Yd_V Yd_c fun S6 => (Yd_G (Yd_let fun x1_7 => Yd_rec)))) (Yd_za fun v8 => (Yd_V Yd_c fun S9 => (Yd_G (Yd_let fun x1_10 => Yd_rec))))))
theorem zd_rowStep_p145 {d : Nat} {x1 : Int} {x2 : Int} {x3 : Int} {x4 : Int} {x6 : Int} {S : ZS} : Yd (fun R => zb_rowStep_p145 R d x1 x2 x3 x4 x6 S) := by
  unfold zb_rowStep_p145
  exact (Yd_if (Yd_za fun v1 => (Yd_zs fun S2 => (Yd_G (Yd_let fun x6_3 => Yd_rec)))) (Yd_G (Yd_let fun x3_4 => Yd_rec)))
theorem zd_areEqual_p182 {d : Nat} {x5 : Int} {S : ZS} : Yd (fun R => zb_areEqual_p182 R d x5 S) := by
  unfold zb_areEqual_p182
  exact (Yd_if Yd_k (Yd_G (Yd_let fun x5_1 => (Yd_zaL fun v2 => (Yd_zaL fun v3 => (Yd_za fun v4 => (Yd_I Yd_c fun v6 S5 => (Yd_let fun x5_7 => Yd_rec))))))))
theorem zd_keepBound_p329 {d : Nat} {x3 : Int} {x4 : Int} {S : ZS} : Yd (fun R => zb_keepBound_p329 R d x3 x4 S) := by
  unfold zb_keepBound_p329
  exact (Yd_if (Yd_zp fun S1 => Yd_k) (Yd_za fun v2 => (Yd_let fun x5_3 => (Yd_za fun v4 => (Yd_zs fun S5 => (Yd_za fun v6 => (Yd_zs fun S7 => (Yd_za fun v8 => (Yd_zs fun S9 => (Yd_za fun v10 => (Yd_zs fun S11 => (Yd_zs fun S12 => (Yd_zp fun S13 => (Yd_G (Yd_let fun x3_14 => (Yd_G (Yd_let fun x4_15 => Yd_rec)))))))))))))))))
theorem zd_sayRow_p124 {d : Nat} {x1 : Int} {x3 : Int} {x4 : Int} {x5 : Int} {x6 : Int} {S : ZS} : Yd (fun R => zb_sayRow_p124 R d x1 x3 x4 x5 x6 S) := by
  unfold zb_sayRow_p124
  exact (Yd_J Yd_c fun v2 S1 => (Yd_G (Yd_V Yd_c fun S3 => (Yd_G (Yd_let fun x6_4 => Yd_rec)))))
theorem zd_sayType_p121 {d : Nat} {x3 : Int} {x4 : Int} {x5 : Int} {x6 : Int} {S : ZS} : Yd (fun R => zb_sayType_p121 R d x3 x4 x5 x6 S) := by
  unfold zb_sayType_p121
  exact (Yd_if (Yd_if (Yd_za fun v1 => (Yd_if (Yd_V Yd_c fun S2 => (Yd_if Yd_k (Yd_V Yd_c fun S3 => Yd_k))) (Yd_V Yd_c fun S4 => (Yd_if Yd_k (Yd_V Yd_c fun S5 => Yd_k))))) (Yd_let fun x7_6 => (Yd_za fun v7 => (Yd_let fun x8_8 => Yd_rec)))) (Yd_za fun v9 => (Yd_za fun v10 => (Yd_V Yd_c fun S11 => (Yd_V Yd_c fun S12 => (Yd_za fun v13 => (Yd_za fun v14 => (Yd_za fun v15 => (Yd_V Yd_c fun S16 => (Yd_if Yd_k (Yd_V Yd_c fun S17 => Yd_k)))))))))))
theorem zd_sayVariable_p141 {d : Nat} {x2 : Int} {S : ZS} : Yd (fun R => zb_sayVariable_p141 R d x2 S) := by
  unfold zb_sayVariable_p141
  exact (Yd_G (Yd_V Yd_c fun S1 => Yd_k))
theorem zd_sayVariable_p70 {d : Nat} {x2 : Int} {x3 : Int} {x4 : Int} {S : ZS} : Yd (fun R => zb_sayVariable_p70 R d x2 x3 x4 S) := by
  unfold zb_sayVariable_p70
  exact (Yd_if (Yd_za fun v1 => (Yd_let fun x3_2 => (Yd_G (Yd_let fun x4_3 => Yd_rec)))) (Yd_za fun v4 => (Yd_V Yd_c fun S5 => Yd_k)))
theorem zd_sayRowType_p148 {d : Nat} {x1 : Int} {x4 : Int} {x5 : Int} {S : ZS} : Yd (fun R => zb_sayRowType_p148 R d x1 x4 x5 S) := by
  unfold zb_sayRowType_p148
  exact (Yd_let fun x3_1 => (Yd_za fun v2 => (Yd_let fun x2_3 => (Yd_V Yd_c fun S4 => (Yd_V Yd_c fun S5 => (Yd_za fun v6 => (Yd_V Yd_c fun S7 => Yd_rec)))))))
theorem zd_sayRowType_p101 {d : Nat} {x1 : Int} {x2 : Int} {x3 : Int} {x6 : Int} {S : ZS} : Yd (fun R => zb_sayRowType_p101 R d x1 x2 x3 x6 S) := by
  unfold zb_sayRowType_p101
  exact (Yd_let fun x5_1 => (Yd_za fun v2 => (Yd_let fun x6_3 => Yd_rec)))
theorem zd_nameAt_text_p120 {d : Nat} {x2 : Int} {x3 : Int} {x4 : Int} {x5 : Int} {x6 : Int} {S : ZS} : Yd (fun R => zb_nameAt_text_p120 R d x2 x3 x4 x5 x6 S) := by
  unfold zb_nameAt_text_p120
  exact (Yd_if (Yd_za fun v1 => (Yd_let fun x5_2 => Yd_rec)) Yd_k)
theorem zd_infixed_p146 {d : Nat} {x1 : Int} {x2 : Int} {x3 : Int} {y0 : Int} {S : ZS} : Yd (fun R => zb_infixed_p146 R d x1 x2 x3 y0 S) := by
  unfold zb_infixed_p146
  exact (Yd_let fun x4_1 => (Yd_if Yd_rec (Yd_V Yd_c fun S2 => Yd_rec)))
theorem zd_mergeRows_p223 {d : Nat} {x2 : Int} {S : ZS} : Yd (fun R => zb_mergeRows_p223 R d x2 S) := by
  unfold zb_mergeRows_p223
  exact (Yd_za fun v1 => (Yd_zs fun S2 => Yd_k))
theorem zd_allFields_p93 {d : Nat} {x3 : Int} {x4 : Int} {x5 : Int} {x6 : Int} {x7 : Int} {S : ZS} : Yd (fun R => zb_allFields_p93 R d x3 x4 x5 x6 x7 S) := by
  unfold zb_allFields_p93
  exact (Yd_if Yd_rec (Yd_za fun v1 => (Yd_za fun v2 => (Yd_if (Yd_if Yd_rec Yd_rec) Yd_rec))))
theorem zd_markRim_p147 {d : Nat} {x3 : Int} {x4 : Int} {S : ZS} : Yd (fun R => zb_markRim_p147 R d x3 x4 S) := by
  unfold zb_markRim_p147
  exact (Yd_if (Yd_G (Yd_let fun x3_1 => Yd_rec)) (Yd_za fun v2 => (Yd_V Yd_c fun S3 => (Yd_za fun v4 => (Yd_let fun x4_5 => Yd_rec)))))
theorem zd_judgedData_p429 {d : Nat} {x8 : Int} {S : ZS} : Yd (fun R => zb_judgedData_p429 R d x8 S) := by
  unfold zb_judgedData_p429
  exact (Yd_if Yd_k (Yd_V Yd_c fun S1 => (Yd_za fun v2 => (Yd_let fun x8_3 => Yd_rec))))
theorem zd_judgedData_p318 {d : Nat} {x1 : Int} {x2 : Int} {x3 : Int} {x4 : Int} {x6 : Int} {x7 : Int} {x8 : Int} {S : ZS} : Yd (fun R => zb_judgedData_p318 R d x1 x2 x3 x4 x6 x7 x8 S) := by
  unfold zb_judgedData_p318
  exact (Yd_if (Yd_I Yd_c fun v2 S1 => (Yd_za fun v3 => (Yd_if (Yd_G (Yd_let fun x8_4 => Yd_rec)) (Yd_I Yd_c fun v6 S5 => (Yd_if (Yd_G (Yd_let fun x8_7 => Yd_rec)) (Yd_za fun v8 => (Yd_I Yd_c fun v10 S9 => (Yd_za fun v11 => (Yd_za fun v12 => (Yd_I Yd_c fun v14 S13 => (Yd_if (Yd_I Yd_c fun v16 S15 => (Yd_zs fun S17 => (Yd_let fun x7_18 => (Yd_G (Yd_let fun x8_19 => Yd_rec))))) (Yd_G (Yd_let fun x8_20 => Yd_rec))))))))))))) Yd_rec)
theorem zd_judgedCons_p355 {d : Nat} {x2 : Int} {x3 : Int} {x4 : Int} {x5 : Int} {x6 : Int} {x9 : Int} {x10 : Int} {y0 : Int} {y1 : Int} {y2 : Int} {S : ZS} : Yd (fun R => zb_judgedCons_p355 R d x2 x3 x4 x5 x6 x9 x10 y0 y1 y2 S) := by
  unfold zb_judgedCons_p355
  exact (Yd_G (Yd_zs fun S1 => (Yd_za fun v2 => (Yd_G (Yd_zs fun S3 => (Yd_if Yd_rec (Yd_I Yd_c fun v5 S4 => Yd_rec)))))))
theorem zd_judgedCons_p277 {d : Nat} {x2 : Int} {x3 : Int} {x4 : Int} {x5 : Int} {x6 : Int} {x7 : Int} {x9 : Int} {x10 : Int} {S : ZS} : Yd (fun R => zb_judgedCons_p277 R d x2 x3 x4 x5 x6 x7 x9 x10 S) := by
  unfold zb_judgedCons_p277
  exact (Yd_let fun x8_1 => (Yd_za fun v2 => (Yd_let fun x9_3 => Yd_rec)))
theorem zd_sayType_p189 {d : Nat} {x3 : Int} {x6 : Int} {x7 : Int} {x8 : Int} {S : ZS} : Yd (fun R => zb_sayType_p189 R d x3 x6 x7 x8 S) := by
  unfold zb_sayType_p189
  exact (Yd_if (Yd_let fun x8_1 => Yd_rec) (Yd_G (Yd_let fun x7_2 => (Yd_za fun v3 => (Yd_let fun x8_4 => Yd_rec)))))
theorem zd_infixed_p158 {d : Nat} {x1 : Int} {x2 : Int} {x3 : Int} {x4 : Int} {S : ZS} : Yd (fun R => zb_infixed_p158 R d x1 x2 x3 x4 S) := by
  unfold zb_infixed_p158
  exact (Yd_if (Yd_let fun x4_1 => Yd_rec) (Yd_if (Yd_let fun x4_2 => Yd_rec) (Yd_let fun x4_3 => Yd_rec)))
theorem zd_allFields_p155 {d : Nat} {x3 : Int} {x4 : Int} {x5 : Int} {x6 : Int} {x7 : Int} {S : ZS} : Yd (fun R => zb_allFields_p155 R d x3 x4 x5 x6 x7 S) := by
  unfold zb_allFields_p155
  exact (Yd_za fun v1 => (Yd_za fun v2 => (Yd_I Yd_c fun v4 S3 => (Yd_let fun x8_5 => (Yd_if (Yd_let fun x4_6 => Yd_rec) (Yd_zs fun S7 => Yd_rec))))))
theorem zd_allFields_p132 {d : Nat} {x3 : Int} {x4 : Int} {x5 : Int} {x6 : Int} {x7 : Int} {y0 : Int} {S : ZS} : Yd (fun R => zb_allFields_p132 R d x3 x4 x5 x6 x7 y0 S) := by
  unfold zb_allFields_p132
  exact (Yd_za fun v1 => (Yd_if Yd_rec Yd_rec))
theorem zd_judgedCons_p392 {d : Nat} {x2 : Int} {x3 : Int} {x4 : Int} {x5 : Int} {x10 : Int} {y0 : Int} {y1 : Int} {S : ZS} : Yd (fun R => zb_judgedCons_p392 R d x2 x3 x4 x5 x10 y0 y1 S) := by
  unfold zb_judgedCons_p392
  exact (Yd_zs fun S1 => (Yd_za fun v2 => (Yd_za fun v3 => (Yd_za fun v4 => (Yd_I Yd_c fun v6 S5 => (Yd_let fun x11_7 => (Yd_za fun v8 => (Yd_let fun x5_9 => Yd_rec))))))))
theorem zd_sayType_p213 {d : Nat} {x3 : Int} {x6 : Int} {x7 : Int} {x8 : Int} {S : ZS} : Yd (fun R => zb_sayType_p213 R d x3 x6 x7 x8 S) := by
  unfold zb_sayType_p213
  exact (Yd_if (Yd_if Yd_rec (Yd_V Yd_c fun S1 => Yd_rec)) (Yd_if Yd_k (Yd_V Yd_c fun S2 => Yd_k)))
theorem zd_allFields_p199 {d : Nat} {x3 : Int} {x4 : Int} {x6 : Int} {x7 : Int} {x8 : Int} {S : ZS} : Yd (fun R => zb_allFields_p199 R d x3 x4 x6 x7 x8 S) := by
  unfold zb_allFields_p199
  exact (Yd_let fun x5_1 => (Yd_za fun v2 => (Yd_let fun x7_3 => Yd_rec)))
theorem zd_allFields_p148 {d : Nat} {x3 : Int} {x4 : Int} {x5 : Int} {x6 : Int} {x7 : Int} {y0 : Int} {y2 : Int} {S : ZS} : Yd (fun R => zb_allFields_p148 R d x3 x4 x5 x6 x7 y0 y2 S) := by
  unfold zb_allFields_p148
  exact (Yd_za fun v1 => (Yd_V Yd_c fun S2 => (Yd_za fun v3 => (Yd_let fun x7_4 => Yd_rec))))
theorem zd_sayType_p233 {d : Nat} {x3 : Int} {x6 : Int} {x7 : Int} {x8 : Int} {S : ZS} : Yd (fun R => zb_sayType_p233 R d x3 x6 x7 x8 S) := by
  unfold zb_sayType_p233
  exact (Yd_za fun v1 => (Yd_I Yd_c fun v3 S2 => (Yd_I Yd_c fun v5 S4 => (Yd_za fun v6 => (Yd_V Yd_c fun S7 => (Yd_G (Yd_let fun x8_8 => Yd_rec)))))))
def zf_0 : zFn ZS := fun R d as S => match as with | [.inl x1, .inl x2, .inl x3, .inl x4, .inl x5] => zb_feed R d x1 x2 x3 x4 x5 S | _ => none
def zf_1 : zFn ZS := fun R d as S => match as with | [.inl x1] => zb_end R d x1 S | _ => none
def zf_2 : zFn ZS := fun R d as S => match as with | [.inl x1, .inl x2, .inl x3, .inl x4] => zb_bindType R d x1 x2 x3 x4 S | _ => none
def zf_3 : zFn ZS := fun R d as S => match as with | [] => zb_unit R d  S | _ => none
def zf_4 : zFn ZS := fun R d as S => match as with | [.inl x1, .inl x2, .inl x3, .inl x4, .inl x5] => zb_type R d x1 x2 x3 x4 x5 S | _ => none
def zf_5 : zFn ZS := fun R d as S => match as with | [.inl x1] => zb_keep R d x1 S | _ => none
def zf_6 : zFn ZS := fun R d as S => match as with | [.inl x1] => zb_kept0 R d x1 S | _ => none
def zf_7 : zFn ZS := fun R d as S => match as with | [.inl x1] => zb_sign0 R d x1 S | _ => none
def zf_8 : zFn ZS := fun R d as S => match as with | [.inl x1] => zb_find R d x1 S | _ => none
def zf_9 : zFn ZS := fun R d as S => match as with | [.inl x1] => zb_made R d x1 S | _ => none
def zf_10 : zFn ZS := fun R d as S => match as with | [.inl x1, .inl x2] => zb_arrow R d x1 x2 S | _ => none
def zf_11 : zFn ZS := fun R d as S => match as with | [.inl x1, .inl x2, .inl x3] => zb_field R d x1 x2 x3 S | _ => none
def zf_12 : zFn ZS := fun R d as S => match as with | [.inl x1, .inl x2, .inl x3, .inl x4, .inl x5, .inl x6] => zb_bind R d x1 x2 x3 x4 x5 x6 S | _ => none
def zf_13 : zFn ZS := fun R d as S => match as with | [.inl x1] => zb_general R d x1 S | _ => none
def zf_14 : zFn ZS := fun R d as S => match as with | [.inl x1, .inl x2] => zb_made_2 R d x1 x2 S | _ => none
def zf_15 : zFn ZS := fun R d as S => match as with | [.inl x1, .inl x2] => zb_pairType R d x1 x2 S | _ => none
def zf_16 : zFn ZS := fun R d as S => match as with | [.inl x0] => zb_number R d x0 S | _ => none
def zf_17 : zFn ZS := fun R d as S => match as with | [] => zb_variableOf R d  S | _ => none
def zf_18 : zFn ZS := fun R d as S => match as with | [.inl x1] => zb_slotOf R d x1 S | _ => none
def zf_19 : zFn ZS := fun R d as S => match as with | [.inl x1] => zb_exceptionValue R d x1 S | _ => none
def zf_20 : zFn ZS := fun R d as S => match as with | [.inl x1, .inl x2, .inl x3] => zb_fix R d x1 x2 x3 S | _ => none
def zf_21 : zFn ZS := fun R d as S => match as with | [.inl x1] => zb_firstType R d x1 S | _ => none
def zf_22 : zFn ZS := fun R d as S => match as with | [.inl x1, .inl x2, .inl x3] => zb_withField R d x1 x2 x3 S | _ => none
def zf_23 : zFn ZS := fun R d as S => match as with | [] => zb_begin R d  S | _ => none
def zf_24 : zFn ZS := fun R d as S => match as with | [] => zb_input R d  S | _ => none
def zf_25 : zFn ZS := fun R d as S => match as with | [] => zb_read R d  S | _ => none
def zf_26 : zFn ZS := fun R d as S => match as with | [] => zb_gaps R d  S | _ => none
def zf_27 : zFn ZS := fun R d as S => match as with | [] => zb_here R d  S | _ => none
def zf_28 : zFn ZS := fun R d as S => match as with | [.inl x0] => zb_isBlank R d x0 S | _ => none
def zf_29 : zFn ZS := fun R d as S => match as with | [.inl x1] => zb_behind R d x1 S | _ => none
def zf_30 : zFn ZS := fun R d as S => match as with | [.inl x0] => zb_isLetter R d x0 S | _ => none
def zf_31 : zFn ZS := fun R d as S => match as with | [] => zb_readName R d  S | _ => none
def zf_32 : zFn ZS := fun R d as S => match as with | [.inl x0] => zb_goesOn R d x0 S | _ => none
def zf_33 : zFn ZS := fun R d as S => match as with | [.inl x0] => zb_isDigit R d x0 S | _ => none
def zf_34 : zFn ZS := fun R d as S => match as with | [] => zb_named R d  S | _ => none
def zf_35 : zFn ZS := fun R d as S => match as with | [] => zb_readVariable R d  S | _ => none
def zf_36 : zFn ZS := fun R d as S => match as with | [] => zb_readInt R d  S | _ => none
def zf_37 : zFn ZS := fun R d as S => match as with | [.inl x1] => zb_readString R d x1 S | _ => none
def zf_38 : zFn ZS := fun R d as S => match as with | [.inl x1] => zb_pushByte R d x1 S | _ => none
def zf_39 : zFn ZS := fun R d as S => match as with | [] => zb_readEscape R d  S | _ => none
def zf_40 : zFn ZS := fun R d as S => match as with | [.inl x0] => zb_isSign R d x0 S | _ => none
def zf_41 : zFn ZS := fun R d as S => match as with | [] => zb_readSigns R d  S | _ => none
def zf_42 : zFn ZS := fun R d as S => match as with | [.inl x1] => zb_readOther R d x1 S | _ => none
def zf_43 : zFn ZS := fun R d as S => match as with | [] => zb_step R d  S | _ => none
def zf_44 : zFn ZS := fun R d as S => match as with | [] => zb_beginsDec R d  S | _ => none
def zf_45 : zFn ZS := fun R d as S => match as with | [.inl x1] => zb_is R d x1 S | _ => none
def zf_46 : zFn ZS := fun R d as S => match as with | [.inl x1] => zb_decs R d x1 S | _ => none
def zf_47 : zFn ZS := fun R d as S => match as with | [] => zb_dec R d  S | _ => none
def zf_48 : zFn ZS := fun R d as S => match as with | [.inl x1] => zb_local R d x1 S | _ => none
def zf_49 : zFn ZS := fun R d as S => match as with | [] => zb_opens R d  S | _ => none
def zf_50 : zFn ZS := fun R d as S => match as with | [.inl x1] => zb_need R d x1 S | _ => none
def zf_51 : zFn ZS := fun R d as S => match as with | [.inl x1] => zb_closes R d x1 S | _ => none
def zf_52 : zFn ZS := fun R d as S => match as with | [.inl x1, .inl x2, .inl x3, .inl x4, .inl x5, .inl x6] => zb_node R d x1 x2 x3 x4 x5 x6 S | _ => none
def zf_53 : zFn ZS := fun R d as S => match as with | [.inl x1] => zb_has R d x1 S | _ => none
def zf_54 : zFn ZS := fun R d as S => match as with | [] => zb_binds R d  S | _ => none
def zf_55 : zFn ZS := fun R d as S => match as with | [] => zb_pattern R d  S | _ => none
def zf_56 : zFn ZS := fun R d as S => match as with | [.inl x1] => zb_infixed R d x1 S | _ => none
def zf_57 : zFn ZS := fun R d as S => match as with | [.inl x1] => zb_push R d x1 S | _ => none
def zf_58 : zFn ZS := fun R d as S => match as with | [] => zb_appliedPattern R d  S | _ => none
def zf_59 : zFn ZS := fun R d as S => match as with | [] => zb_isOpName R d  S | _ => none
def zf_60 : zFn ZS := fun R d as S => match as with | [.inl x1] => zb_isInfix R d x1 S | _ => none
def zf_61 : zFn ZS := fun R d as S => match as with | [.inl x1] => zb_fixOf R d x1 S | _ => none
def zf_62 : zFn ZS := fun R d as S => match as with | [.inl x1] => zb_strength R d x1 S | _ => none
def zf_63 : zFn ZS := fun R d as S => match as with | [] => zb_atomPattern R d  S | _ => none
def zf_64 : zFn ZS := fun R d as S => match as with | [.inl x1] => zb_constant R d x1 S | _ => none
def zf_65 : zFn ZS := fun R d as S => match as with | [.inl x1] => zb_patternRow R d x1 S | _ => none
def zf_66 : zFn ZS := fun R d as S => match as with | [] => zb_patternField R d  S | _ => none
def zf_67 : zFn ZS := fun R d as S => match as with | [] => zb_label R d  S | _ => none
def zf_68 : zFn ZS := fun R d as S => match as with | [] => zb_isLabel R d  S | _ => none
def zf_69 : zFn ZS := fun R d as S => match as with | [] => zb_type_2 R d  S | _ => none
def zf_70 : zFn ZS := fun R d as S => match as with | [] => zb_tupleType R d  S | _ => none
def zf_71 : zFn ZS := fun R d as S => match as with | [] => zb_suffixed R d  S | _ => none
def zf_72 : zFn ZS := fun R d as S => match as with | [] => zb_atomicType R d  S | _ => none
def zf_73 : zFn ZS := fun R d as S => match as with | [.inl x1] => zb_typeRow R d x1 S | _ => none
def zf_74 : zFn ZS := fun R d as S => match as with | [.inl x1, .inl x2] => zb_patternHeld R d x1 x2 S | _ => none
def zf_75 : zFn ZS := fun R d as S => match as with | [] => zb_opName R d  S | _ => none
def zf_76 : zFn ZS := fun R d as S => match as with | [] => zb_anyName R d  S | _ => none
def zf_77 : zFn ZS := fun R d as S => match as with | [] => zb_plainName R d  S | _ => none
def zf_78 : zFn ZS := fun R d as S => match as with | [] => zb_beginsAtomPattern R d  S | _ => none
def zf_79 : zFn ZS := fun R d as S => match as with | [] => zb_applications R d  S | _ => none
def zf_80 : zFn ZS := fun R d as S => match as with | [] => zb_atom R d  S | _ => none
def zf_81 : zFn ZS := fun R d as S => match as with | [.inl x1] => zb_expressionRow R d x1 S | _ => none
def zf_82 : zFn ZS := fun R d as S => match as with | [] => zb_expression R d  S | _ => none
def zf_83 : zFn ZS := fun R d as S => match as with | [] => zb_match R d  S | _ => none
def zf_84 : zFn ZS := fun R d as S => match as with | [] => zb_rule R d  S | _ => none
def zf_85 : zFn ZS := fun R d as S => match as with | [] => zb_orelse R d  S | _ => none
def zf_86 : zFn ZS := fun R d as S => match as with | [] => zb_andalso R d  S | _ => none
def zf_87 : zFn ZS := fun R d as S => match as with | [] => zb_typed R d  S | _ => none
def zf_88 : zFn ZS := fun R d as S => match as with | [] => zb_beginsBig R d  S | _ => none
def zf_89 : zFn ZS := fun R d as S => match as with | [.inl x1] => zb_expressionHeld R d x1 S | _ => none
def zf_90 : zFn ZS := fun R d as S => match as with | [.inl x1] => zb_row R d x1 S | _ => none
def zf_91 : zFn ZS := fun R d as S => match as with | [.inl x1] => zb_let R d x1 S | _ => none
def zf_92 : zFn ZS := fun R d as S => match as with | [] => zb_beginsAtom R d  S | _ => none
def zf_93 : zFn ZS := fun R d as S => match as with | [] => zb_isInfixHere R d  S | _ => none
def zf_94 : zFn ZS := fun R d as S => match as with | [.inl x1] => zb_isRight R d x1 S | _ => none
def zf_95 : zFn ZS := fun R d as S => match as with | [.inl x1] => zb_reduce R d x1 S | _ => none
def zf_96 : zFn ZS := fun R d as S => match as with | [] => zb_functions R d  S | _ => none
def zf_97 : zFn ZS := fun R d as S => match as with | [] => zb_clauses R d  S | _ => none
def zf_98 : zFn ZS := fun R d as S => match as with | [] => zb_clause R d  S | _ => none
def zf_99 : zFn ZS := fun R d as S => match as with | [.inl x1, .inl x2] => zb_pair R d x1 x2 S | _ => none
def zf_100 : zFn ZS := fun R d as S => match as with | [] => zb_variables R d  S | _ => none
def zf_101 : zFn ZS := fun R d as S => match as with | [] => zb_variable R d  S | _ => none
def zf_102 : zFn ZS := fun R d as S => match as with | [] => zb_datas R d  S | _ => none
def zf_103 : zFn ZS := fun R d as S => match as with | [] => zb_constructors R d  S | _ => none
def zf_104 : zFn ZS := fun R d as S => match as with | [] => zb_freeName R d  S | _ => none
def zf_105 : zFn ZS := fun R d as S => match as with | [.inl x1] => zb_exception R d x1 S | _ => none
def zf_106 : zFn ZS := fun R d as S => match as with | [.inl x1, .inl x2] => zb_infixes R d x1 x2 S | _ => none
def zf_107 : zFn ZS := fun R d as S => match as with | [] => zb_valuesAtBegin R d  S | _ => none
def zf_108 : zFn ZS := fun R d as S => match as with | [.inl x1, .inl x2] => zb_beginCode R d x1 x2 S | _ => none
def zf_109 : zFn ZS := fun R d as S => match as with | [.inl x1] => zb_judgedDec R d x1 S | _ => none
def zf_110 : zFn ZS := fun R d as S => match as with | [.inl x1] => zb_judgedVal R d x1 S | _ => none
def zf_111 : zFn ZS := fun R d as S => match as with | [.inl x1] => zb_enterVariables R d x1 S | _ => none
def zf_112 : zFn ZS := fun R d as S => match as with | [.inl x1, .inl x2] => zb_lookAll R d x1 x2 S | _ => none
def zf_113 : zFn ZS := fun R d as S => match as with | [.inl x1, .inl x2] => zb_look R d x1 x2 S | _ => none
def zf_114 : zFn ZS := fun R d as S => match as with | [.inl x1, .inl x2] => zb_found R d x1 x2 S | _ => none
def zf_115 : zFn ZS := fun R d as S => match as with | [.inl x1] => zb_judgedPattern R d x1 S | _ => none
def zf_116 : zFn ZS := fun R d as S => match as with | [] => zb_unknown R d  S | _ => none
def zf_117 : zFn ZS := fun R d as S => match as with | [.inl x1] => zb_patternName R d x1 S | _ => none
def zf_118 : zFn ZS := fun R d as S => match as with | [.inl x1] => zb_valueOf R d x1 S | _ => none
def zf_119 : zFn ZS := fun R d as S => match as with | [.inl x1] => zb_hasArgument R d x1 S | _ => none
def zf_120 : zFn ZS := fun R d as S => match as with | [.inl x1, .inl x2] => zb_meet R d x1 x2 S | _ => none
def zf_121 : zFn ZS := fun R d as S => match as with | [.inl x1, .inl x2] => zb_use R d x1 x2 S | _ => none
def zf_122 : zFn ZS := fun R d as S => match as with | [.inl x1] => zb_isTop R d x1 S | _ => none
def zf_123 : zFn ZS := fun R d as S => match as with | [.inl x1] => zb_ownerOf R d x1 S | _ => none
def zf_124 : zFn ZS := fun R d as S => match as with | [.inl x1, .inl x2] => zb_isUsed R d x1 x2 S | _ => none
def zf_125 : zFn ZS := fun R d as S => match as with | [.inl x1] => zb_instance R d x1 S | _ => none
def zf_126 : zFn ZS := fun R d as S => match as with | [.inl x1] => zb_made0 R d x1 S | _ => none
def zf_127 : zFn ZS := fun R d as S => match as with | [.inl x1, .inl x2] => zb_madeFrom R d x1 x2 S | _ => none
def zf_128 : zFn ZS := fun R d as S => match as with | [.inl x1] => zb_readSign R d x1 S | _ => none
def zf_129 : zFn ZS := fun R d as S => match as with | [.inl x1] => zb_instanceOf R d x1 S | _ => none
def zf_130 : zFn ZS := fun R d as S => match as with | [.inl x1, .inl x2] => zb_enter R d x1 x2 S | _ => none
def zf_131 : zFn ZS := fun R d as S => match as with | [.inl x1] => zb_copied R d x1 S | _ => none
def zf_132 : zFn ZS := fun R d as S => match as with | [.inl x1, .inl x2] => zb_pend R d x1 x2 S | _ => none
def zf_133 : zFn ZS := fun R d as S => match as with | [.inl x1] => zb_isFixed R d x1 S | _ => none
def zf_134 : zFn ZS := fun R d as S => match as with | [.inl x1] => zb_countTop R d x1 S | _ => none
def zf_135 : zFn ZS := fun R d as S => match as with | [.inl x1] => zb_patternCon R d x1 S | _ => none
def zf_136 : zFn ZS := fun R d as S => match as with | [.inl x1, .inl x2, .inl x3] => zb_join R d x1 x2 x3 S | _ => none
def zf_137 : zFn ZS := fun R d as S => match as with | [.inl x1, .inl x2] => zb_joined R d x1 x2 S | _ => none
def zf_138 : zFn ZS := fun R d as S => match as with | [.inl x1, .inl x2] => zb_later R d x1 x2 S | _ => none
def zf_139 : zFn ZS := fun R d as S => match as with | [.inl x1, .inl x2] => zb_merge R d x1 x2 S | _ => none
def zf_140 : zFn ZS := fun R d as S => match as with | [.inl x1, .inl x2] => zb_becomes R d x1 x2 S | _ => none
def zf_141 : zFn ZS := fun R d as S => match as with | [.inl x1] => zb_isOrdered R d x1 S | _ => none
def zf_142 : zFn ZS := fun R d as S => match as with | [.inl x1, .inl x2] => zb_mergeRows R d x1 x2 S | _ => none
def zf_143 : zFn ZS := fun R d as S => match as with | [.inl x1, .inl x2] => zb_partOf R d x1 x2 S | _ => none
def zf_144 : zFn ZS := fun R d as S => match as with | [.inl x1, .inl x2] => zb_allFields R d x1 x2 S | _ => none
def zf_145 : zFn ZS := fun R d as S => match as with | [.inl x1] => zb_fieldsFrom R d x1 S | _ => none
def zf_146 : zFn ZS := fun R d as S => match as with | [.inl x1, .inl x2] => zb_mergeMade R d x1 x2 S | _ => none
def zf_147 : zFn ZS := fun R d as S => match as with | [.inl x1] => zb_isEndless R d x1 S | _ => none
def zf_148 : zFn ZS := fun R d as S => match as with | [] => zb_admit R d  S | _ => none
def zf_149 : zFn ZS := fun R d as S => match as with | [.inl x1] => zb_isEqualVariable R d x1 S | _ => none
def zf_150 : zFn ZS := fun R d as S => match as with | [.inl x1] => zb_asks R d x1 S | _ => none
def zf_151 : zFn ZS := fun R d as S => match as with | [.inl x1] => zb_patternTuple R d x1 S | _ => none
def zf_152 : zFn ZS := fun R d as S => match as with | [.inl x1] => zb_patternParts R d x1 S | _ => none
def zf_153 : zFn ZS := fun R d as S => match as with | [.inl x1] => zb_patternList R d x1 S | _ => none
def zf_154 : zFn ZS := fun R d as S => match as with | [.inl x1] => zb_meant R d x1 S | _ => none
def zf_155 : zFn ZS := fun R d as S => match as with | [.inl x1] => zb_toldVariable R d x1 S | _ => none
def zf_156 : zFn ZS := fun R d as S => match as with | [.inl x1] => zb_toldName R d x1 S | _ => none
def zf_157 : zFn ZS := fun R d as S => match as with | [.inl x1, .inl x2] => zb_toldOne R d x1 x2 S | _ => none
def zf_158 : zFn ZS := fun R d as S => match as with | [.inl x1] => zb_typeNamed R d x1 S | _ => none
def zf_159 : zFn ZS := fun R d as S => match as with | [.inl x1, .inl x2] => zb_standsFor R d x1 x2 S | _ => none
def zf_160 : zFn ZS := fun R d as S => match as with | [.inl x1] => zb_toldRow R d x1 S | _ => none
def zf_161 : zFn ZS := fun R d as S => match as with | [.inl x1] => zb_patternAs R d x1 S | _ => none
def zf_162 : zFn ZS := fun R d as S => match as with | [.inl x1] => zb_judged R d x1 S | _ => none
def zf_163 : zFn ZS := fun R d as S => match as with | [.inl x1, .inl x2, .inl x3] => zb_judgedName R d x1 x2 x3 S | _ => none
def zf_164 : zFn ZS := fun R d as S => match as with | [.inl x1] => zb_judgedRow R d x1 S | _ => none
def zf_165 : zFn ZS := fun R d as S => match as with | [.inl x1] => zb_judgedTuple R d x1 S | _ => none
def zf_166 : zFn ZS := fun R d as S => match as with | [.inl x1] => zb_judgedApplication R d x1 S | _ => none
def zf_167 : zFn ZS := fun R d as S => match as with | [.inl x1] => zb_judgedInfix R d x1 S | _ => none
def zf_168 : zFn ZS := fun R d as S => match as with | [.inl x1] => zb_judgedIf R d x1 S | _ => none
def zf_169 : zFn ZS := fun R d as S => match as with | [.inl x1, .inl x2, .inl x3, .inl x4] => zb_rules R d x1 x2 x3 x4 S | _ => none
def zf_170 : zFn ZS := fun R d as S => match as with | [.inl x1] => zb_bindPending R d x1 S | _ => none
def zf_171 : zFn ZS := fun R d as S => match as with | [.inl x1] => zb_countOf R d x1 S | _ => none
def zf_172 : zFn ZS := fun R d as S => match as with | [.inr (.inl x1), .inl x3, .inl x4] => zb_times R d x1 x3 x4 S | _ => none
def zf_173 : zFn ZS := fun R d as S => match as with | [.inl x1, .inl x2] => zb_match_2 R d x1 x2 S | _ => none
def zf_174 : zFn ZS := fun R d as S => match as with | [.inl x1] => zb_judgedFn R d x1 S | _ => none
def zf_175 : zFn ZS := fun R d as S => match as with | [.inl x1] => zb_endCode R d x1 S | _ => none
def zf_176 : zFn ZS := fun R d as S => match as with | [.inl x1] => zb_judgedOther R d x1 S | _ => none
def zf_177 : zFn ZS := fun R d as S => match as with | [.inl x1] => zb_judgedSequence R d x1 S | _ => none
def zf_178 : zFn ZS := fun R d as S => match as with | [.inl x1] => zb_judgedLet R d x1 S | _ => none
def zf_179 : zFn ZS := fun R d as S => match as with | [.inl x1] => zb_does R d x1 S | _ => none
def zf_180 : zFn ZS := fun R d as S => match as with | [.inl x1] => zb_isMaker R d x1 S | _ => none
def zf_181 : zFn ZS := fun R d as S => match as with | [.inl x1] => zb_kindIn R d x1 S | _ => none
def zf_182 : zFn ZS := fun R d as S => match as with | [.inl x1] => zb_infoIn R d x1 S | _ => none
def zf_183 : zFn ZS := fun R d as S => match as with | [.inl x1, .inl x2, .inl x3] => zb_through R d x1 x2 x3 S | _ => none
def zf_184 : zFn ZS := fun R d as S => match as with | [.inl x1] => zb_sizeOf R d x1 S | _ => none
def zf_185 : zFn ZS := fun R d as S => match as with | [.inl x1, .inl x2] => zb_enterSize R d x1 x2 S | _ => none
def zf_186 : zFn ZS := fun R d as S => match as with | [.inl x1, .inl x2] => zb_markRim R d x1 x2 S | _ => none
def zf_187 : zFn ZS := fun R d as S => match as with | [.inl x1, .inl x2] => zb_spreadRim R d x1 x2 S | _ => none
def zf_188 : zFn ZS := fun R d as S => match as with | [.inl x1] => zb_generalise R d x1 S | _ => none
def zf_189 : zFn ZS := fun R d as S => match as with | [.inl x1] => zb_bindLines R d x1 S | _ => none
def zf_190 : zFn ZS := fun R d as S => match as with | [.inl x1, .inl x2] => zb_line R d x1 x2 S | _ => none
def zf_191 : zFn ZS := fun R d as S => match as with | [.inl x1] => zb_judgedRec R d x1 S | _ => none
def zf_192 : zFn ZS := fun R d as S => match as with | [.inl x1] => zb_judgedFun R d x1 S | _ => none
def zf_193 : zFn ZS := fun R d as S => match as with | [.inl x1, .inl x2] => zb_judgedFunction R d x1 x2 S | _ => none
def zf_194 : zFn ZS := fun R d as S => match as with | [.inl x1, .inl x2, .inl x3, .inl x4, .inl x5] => zb_judgedClause R d x1 x2 x3 x4 x5 S | _ => none
def zf_195 : zFn ZS := fun R d as S => match as with | [.inl x1] => zb_judgedType R d x1 S | _ => none
def zf_196 : zFn ZS := fun R d as S => match as with | [.inl x1] => zb_listed R d x1 S | _ => none
def zf_197 : zFn ZS := fun R d as S => match as with | [.inl x1] => zb_judgedData R d x1 S | _ => none
def zf_198 : zFn ZS := fun R d as S => match as with | [.inl x1, .inl x2] => zb_judgedCons R d x1 x2 S | _ => none
def zf_199 : zFn ZS := fun R d as S => match as with | [.inl x1] => zb_conOf R d x1 S | _ => none
def zf_200 : zFn ZS := fun R d as S => match as with | [.inl x1] => zb_hasPart0 R d x1 S | _ => none
def zf_201 : zFn ZS := fun R d as S => match as with | [.inl x1] => zb_admits R d x1 S | _ => none
def zf_202 : zFn ZS := fun R d as S => match as with | [.inl x1] => zb_judgedException R d x1 S | _ => none
def zf_203 : zFn ZS := fun R d as S => match as with | [.inl x1] => zb_judgedSame R d x1 S | _ => none
def zf_204 : zFn ZS := fun R d as S => match as with | [.inl x1] => zb_judgedLocal R d x1 S | _ => none
def zf_205 : zFn ZS := fun R d as S => match as with | [] => zb_finish R d  S | _ => none
def zf_206 : zFn ZS := fun R d as S => match as with | [.inl x1] => zb_hasUnknown R d x1 S | _ => none
def zf_207 : zFn ZS := fun R d as S => match as with | [] => zb_noteAll R d  S | _ => none
def zf_208 : zFn ZS := fun R d as S => match as with | [.inl x1, .inl x2, .inl x3, .inl x4] => zb_isUseful R d x1 x2 x3 x4 S | _ => none
def zf_209 : zFn ZS := fun R d as S => match as with | [.inl x1] => zb_usefulHere R d x1 S | _ => none
def zf_210 : zFn ZS := fun R d as S => match as with | [] => zb_takesAll R d  S | _ => none
def zf_211 : zFn ZS := fun R d as S => match as with | [.inl x1] => zb_normal R d x1 S | _ => none
def zf_212 : zFn ZS := fun R d as S => match as with | [.inl x1] => zb_bare0 R d x1 S | _ => none
def zf_213 : zFn ZS := fun R d as S => match as with | [.inl x1] => zb_headOf R d x1 S | _ => none
def zf_214 : zFn ZS := fun R d as S => match as with | [] => zb_rowStep R d  S | _ => none
def zf_215 : zFn ZS := fun R d as S => match as with | [.inl x1] => zb_labelsOf R d x1 S | _ => none
def zf_216 : zFn ZS := fun R d as S => match as with | [.inl x1, .inl x2] => zb_partAt R d x1 x2 S | _ => none
def zf_217 : zFn ZS := fun R d as S => match as with | [.inl x1] => zb_hasLabel R d x1 S | _ => none
def zf_218 : zFn ZS := fun R d as S => match as with | [.inl x1] => zb_hasPart R d x1 S | _ => none
def zf_219 : zFn ZS := fun R d as S => match as with | [.inl x1, .inl x2] => zb_narrowed R d x1 x2 S | _ => none
def zf_220 : zFn ZS := fun R d as S => match as with | [.inl x1, .inl x2] => zb_agrees R d x1 x2 S | _ => none
def zf_221 : zFn ZS := fun R d as S => match as with | [.inl x1] => zb_makerOf R d x1 S | _ => none
def zf_222 : zFn ZS := fun R d as S => match as with | [.inl x1, .inl x2] => zb_isSameConstant R d x1 x2 S | _ => none
def zf_223 : zFn ZS := fun R d as S => match as with | [.inl x1, .inl x2] => zb_order0 R d x1 x2 S | _ => none
def zf_224 : zFn ZS := fun R d as S => match as with | [.inl x1] => zb_sizeIn R d x1 S | _ => none
def zf_225 : zFn ZS := fun R d as S => match as with | [.inl x1, .inl x2] => zb_byteIn R d x1 x2 S | _ => none
def zf_226 : zFn ZS := fun R d as S => match as with | [.inl x1] => zb_exceptionIn R d x1 S | _ => none
def zf_227 : zFn ZS := fun R d as S => match as with | [.inl x1] => zb_partOfPattern R d x1 S | _ => none
def zf_228 : zFn ZS := fun R d as S => match as with | [.inl x1] => zb_areAllTold R d x1 S | _ => none
def zf_229 : zFn ZS := fun R d as S => match as with | [.inl x1] => zb_usefulByEach R d x1 S | _ => none
def zf_230 : zFn ZS := fun R d as S => match as with | [.inl x1] => zb_slide R d x1 S | _ => none
def zf_231 : zFn ZS := fun R d as S => match as with | [.inl x1, .inl x2] => zb_note0 R d x1 x2 S | _ => none
def zf_232 : zFn ZS := fun R d as S => match as with | [] => zb_giveBack R d  S | _ => none
def zf_233 : zFn ZS := fun R d as S => match as with | [.inl x1] => zb_runAll R d x1 S | _ => none
def zf_234 : zFn ZS := fun R d as S => match as with | [.inl x1, .inl x2, .inr (.inl x3), .inl x5] => zb_push0 R d x1 x2 x3 x5 S | _ => none
def zf_235 : zFn ZS := fun R d as S => match as with | [.inr (.inl x1)] => zb_gives R d x1 S | _ => none
def zf_236 : zFn ZS := fun R d as S => match as with | [.inl x1, .inl x2] => zb_work R d x1 x2 S | _ => none
def zf_237 : zFn ZS := fun R d as S => match as with | [.inr (.inl x0), .inr (.inl x2)] => zb_value R d x0 x2 S | _ => none
def zf_238 : zFn ZS := fun R d as S => match as with | [.inl x1] => zb_named0 R d x1 S | _ => none
def zf_239 : zFn ZS := fun R d as S => match as with | [.inl x1] => zb_load R d x1 S | _ => none
def zf_240 : zFn ZS := fun R d as S => match as with | [.inr (.inl x0)] => zb_numberOf R d x0 S | _ => none
def zf_241 : zFn ZS := fun R d as S => match as with | [.inl x1, .inl x2] => zb_placeIn R d x1 x2 S | _ => none
def zf_242 : zFn ZS := fun R d as S => match as with | [.inl x1] => zb_closure R d x1 S | _ => none
def zf_243 : zFn ZS := fun R d as S => match as with | [.inl x1] => zb_cells R d x1 S | _ => none
def zf_244 : zFn ZS := fun R d as S => match as with | [.inl x1] => zb_place R d x1 S | _ => none
def zf_245 : zFn ZS := fun R d as S => match as with | [.inl x1, .inl x2, .inl x3, .inl x4] => zb_waitFor R d x1 x2 x3 x4 S | _ => none
def zf_246 : zFn ZS := fun R d as S => match as with | [.inl x1, .inl x2] => zb_goTo R d x1 x2 S | _ => none
def zf_247 : zFn ZS := fun R d as S => match as with | [.inl x1, .inl x2] => zb_applications0 R d x1 x2 S | _ => none
def zf_248 : zFn ZS := fun R d as S => match as with | [.inl x1] => zb_test R d x1 S | _ => none
def zf_249 : zFn ZS := fun R d as S => match as with | [] => zb_step1 R d  S | _ => none
def zf_250 : zFn ZS := fun R d as S => match as with | [.inl x1, .inl x2] => zb_sequence R d x1 x2 S | _ => none
def zf_251 : zFn ZS := fun R d as S => match as with | [.inl x1, .inl x2] => zb_workOther R d x1 x2 S | _ => none
def zf_252 : zFn ZS := fun R d as S => match as with | [] => zb_goesOn_2 R d  S | _ => none
def zf_253 : zFn ZS := fun R d as S => match as with | [.inr (.inl x1)] => zb_raises R d x1 S | _ => none
def zf_254 : zFn ZS := fun R d as S => match as with | [.inr (.inl x1)] => zb_isTrue R d x1 S | _ => none
def zf_255 : zFn ZS := fun R d as S => match as with | [.inl x1, .inr (.inl x2), .inl x4, .inl x5] => zb_choose R d x1 x2 x4 x5 S | _ => none
def zf_256 : zFn ZS := fun R d as S => match as with | [.inl x1, .inr (.inl x2)] => zb_matches R d x1 x2 S | _ => none
def zf_257 : zFn ZS := fun R d as S => match as with | [.inl x1, .inr (.inl x2)] => zb_store R d x1 x2 S | _ => none
def zf_258 : zFn ZS := fun R d as S => match as with | [.inr (.inl x0)] => zb_kindOf R d x0 S | _ => none
def zf_259 : zFn ZS := fun R d as S => match as with | [.inl x1, .inr (.inl x2)] => zb_matchesRow R d x1 x2 S | _ => none
def zf_260 : zFn ZS := fun R d as S => match as with | [.inr (.inl x1), .inl x3] => zb_part R d x1 x3 S | _ => none
def zf_261 : zFn ZS := fun R d as S => match as with | [.inr (.inl x1)] => zb_manyOf R d x1 S | _ => none
def zf_262 : zFn ZS := fun R d as S => match as with | [.inr (.inl x1), .inl x3] => zb_labelOf R d x1 x3 S | _ => none
def zf_263 : zFn ZS := fun R d as S => match as with | [.inr (.inl x1), .inl x3] => zb_partOf_2 R d x1 x3 S | _ => none
def zf_264 : zFn ZS := fun R d as S => match as with | [.inl x1, .inr (.inl x2)] => zb_matchesTuple R d x1 x2 S | _ => none
def zf_265 : zFn ZS := fun R d as S => match as with | [.inl x1, .inr (.inl x2)] => zb_matchesList R d x1 x2 S | _ => none
def zf_266 : zFn ZS := fun R d as S => match as with | [.inl x1, .inr (.inl x2)] => zb_isMadeBy R d x1 x2 S | _ => none
def zf_267 : zFn ZS := fun R d as S => match as with | [] => zb_back R d  S | _ => none
def zf_268 : zFn ZS := fun R d as S => match as with | [.inl x1, .inl x2, .inl x3, .inr (.inl x4)] => zb_goesOnMore R d x1 x2 x3 x4 S | _ => none
def zf_269 : zFn ZS := fun R d as S => match as with | [.inr (.inl x1), .inr (.inl x3), .inl x5] => zb_apply R d x1 x3 x5 S | _ => none
def zf_270 : zFn ZS := fun R d as S => match as with | [.inl x1, .inr (.inl x2)] => zb_makes R d x1 x2 S | _ => none
def zf_271 : zFn ZS := fun R d as S => match as with | [.inr (.inl x1), .inr (.inl x3)] => zb_thrownWith R d x1 x3 S | _ => none
def zf_272 : zFn ZS := fun R d as S => match as with | [.inl x1, .inr (.inl x2)] => zb_firstOf R d x1 x2 S | _ => none
def zf_273 : zFn ZS := fun R d as S => match as with | [.inl x1] => zb_isOfTwo R d x1 S | _ => none
def zf_274 : zFn ZS := fun R d as S => match as with | [.inl x1, .inr (.inl x2), .inr (.inl x4)] => zb_first R d x1 x2 x4 S | _ => none
def zf_275 : zFn ZS := fun R d as S => match as with | [.inr (.inl x1), .inr (.inl x3)] => zb_areEqual R d x1 x3 S | _ => none
def zf_276 : zFn ZS := fun R d as S => match as with | [.inl x1, .inl x2, .inl x3, .inl x4] => zb_rowAhead R d x1 x2 x3 x4 S | _ => none
def zf_277 : zFn ZS := fun R d as S => match as with | [.inr (.inl x1), .inr (.inl x3)] => zb_order R d x1 x3 S | _ => none
def zf_278 : zFn ZS := fun R d as S => match as with | [.inl x1] => zb_truth R d x1 S | _ => none
def zf_279 : zFn ZS := fun R d as S => match as with | [.inr (.inl x1)] => zb_intOf R d x1 S | _ => none
def zf_280 : zFn ZS := fun R d as S => match as with | [.inr (.inl x1), .inr (.inl x3)] => zb_joinedStrings R d x1 x3 S | _ => none
def zf_281 : zFn ZS := fun R d as S => match as with | [.inl x1] => zb_stringOf R d x1 S | _ => none
def zf_282 : zFn ZS := fun R d as S => match as with | [.inl x1, .inl x2, .inl x3] => zb_substringOf R d x1 x2 x3 S | _ => none
def zf_283 : zFn ZS := fun R d as S => match as with | [.inl x1] => zb_exploded R d x1 S | _ => none
def zf_284 : zFn ZS := fun R d as S => match as with | [.inr (.inl x1), .inr (.inl x3)] => zb_pairOf R d x1 x3 S | _ => none
def zf_285 : zFn ZS := fun R d as S => match as with | [.inl x1] => zb_tuple R d x1 S | _ => none
def zf_286 : zFn ZS := fun R d as S => match as with | [.inr (.inl x1)] => zb_imploded R d x1 S | _ => none
def zf_287 : zFn ZS := fun R d as S => match as with | [.inr (.inl x1)] => zb_rest R d x1 S | _ => none
def zf_288 : zFn ZS := fun R d as S => match as with | [.inr (.inl x1)] => zb_thing R d x1 S | _ => none
def zf_289 : zFn ZS := fun R d as S => match as with | [.inr (.inl x1)] => zb_digitsOf R d x1 S | _ => none
def zf_290 : zFn ZS := fun R d as S => match as with | [.inl x1] => zb_putOut R d x1 S | _ => none
def zf_291 : zFn ZS := fun R d as S => match as with | [.inr (.inl x1)] => zb_functionOf R d x1 S | _ => none
def zf_292 : zFn ZS := fun R d as S => match as with | [.inr (.inl x1), .inr (.inl x3), .inl x5] => zb_partial R d x1 x3 x5 S | _ => none
def zf_293 : zFn ZS := fun R d as S => match as with | [.inr (.inl x1), .inr (.inl x3), .inl x5, .inl x6] => zb_call R d x1 x3 x5 x6 S | _ => none
def zf_294 : zFn ZS := fun R d as S => match as with | [] => zb_body R d  S | _ => none
def zf_295 : zFn ZS := fun R d as S => match as with | [.inl x1, .inr (.inl x2), .inr (.inl x4), .inl x6] => zb_infix R d x1 x2 x4 x6 S | _ => none
def zf_296 : zFn ZS := fun R d as S => match as with | [.inl x1] => zb_decs0 R d x1 S | _ => none
def zf_297 : zFn ZS := fun R d as S => match as with | [.inl x1] => zb_rec R d x1 S | _ => none
def zf_298 : zFn ZS := fun R d as S => match as with | [.inl x1] => zb_nameIn R d x1 S | _ => none
def zf_299 : zFn ZS := fun R d as S => match as with | [.inl x1, .inr (.inl x2)] => zb_tie R d x1 x2 S | _ => none
def zf_300 : zFn ZS := fun R d as S => match as with | [.inl x1] => zb_fun R d x1 S | _ => none
def zf_301 : zFn ZS := fun R d as S => match as with | [.inl x1, .inr (.inl x2)] => zb_bound R d x1 x2 S | _ => none
def zf_302 : zFn ZS := fun R d as S => match as with | [.inl x1, .inl x2, .inl x3, .inr (.inl x4)] => zb_oneMore R d x1 x2 x3 x4 S | _ => none
def zf_303 : zFn ZS := fun R d as S => match as with | [.inl x1] => zb_listOf R d x1 S | _ => none
def zf_304 : zFn ZS := fun R d as S => match as with | [.inl x1, .inl x2, .inl x3] => zb_rowOf R d x1 x2 x3 S | _ => none
def zf_305 : zFn ZS := fun R d as S => match as with | [.inl x1] => zb_shapeOf R d x1 S | _ => none
def zf_306 : zFn ZS := fun R d as S => match as with | [.inl x1, .inl x2] => zb_isAhead R d x1 x2 S | _ => none
def zf_307 : zFn ZS := fun R d as S => match as with | [.inl x1] => zb_likeShape R d x1 S | _ => none
def zf_308 : zFn ZS := fun R d as S => match as with | [] => zb_unwind R d  S | _ => none
def zf_309 : zFn ZS := fun R d as S => match as with | [] => zb_keepBound R d  S | _ => none
def zf_310 : zFn ZS := fun R d as S => match as with | [] => zb_keepInfix R d  S | _ => none
def zf_311 : zFn ZS := fun R d as S => match as with | [] => zb_keepTypes R d  S | _ => none
def zf_312 : zFn ZS := fun R d as S => match as with | [.inl x1] => zb_endOf R d x1 S | _ => none
def zf_313 : zFn ZS := fun R d as S => match as with | [] => zb_noteLines R d  S | _ => none
def zf_314 : zFn ZS := fun R d as S => match as with | [.inl x1] => zb_told R d x1 S | _ => none
def zf_315 : zFn ZS := fun R d as S => match as with | [.inl x1] => zb_tell R d x1 S | _ => none
def zf_316 : zFn ZS := fun R d as S => match as with | [.inr (.inl x1), .inl x3] => zb_sayValue R d x1 x3 S | _ => none
def zf_317 : zFn ZS := fun R d as S => match as with | [] => zb_isFull R d  S | _ => none
def zf_318 : zFn ZS := fun R d as S => match as with | [.inl x1] => zb_say R d x1 S | _ => none
def zf_319 : zFn ZS := fun R d as S => match as with | [.inr (.inl x1)] => zb_sayInt R d x1 S | _ => none
def zf_320 : zFn ZS := fun R d as S => match as with | [.inl x1] => zb_sayByte R d x1 S | _ => none
def zf_321 : zFn ZS := fun R d as S => match as with | [.inl x1] => zb_sayName R d x1 S | _ => none
def zf_322 : zFn ZS := fun R d as S => match as with | [.inr (.inl x1), .inl x3] => zb_sayRow R d x1 x3 S | _ => none
def zf_323 : zFn ZS := fun R d as S => match as with | [.inl x1] => zb_sayLabel R d x1 S | _ => none
def zf_324 : zFn ZS := fun R d as S => match as with | [.inr (.inl x1), .inl x3] => zb_sayBehind R d x1 x3 S | _ => none
def zf_325 : zFn ZS := fun R d as S => match as with | [.inr (.inl x1)] => zb_isApplied R d x1 S | _ => none
def zf_326 : zFn ZS := fun R d as S => match as with | [.inr (.inl x1)] => zb_numberOfCon R d x1 S | _ => none
def zf_327 : zFn ZS := fun R d as S => match as with | [.inr (.inl x1), .inl x3] => zb_sayMade R d x1 x3 S | _ => none
def zf_328 : zFn ZS := fun R d as S => match as with | [.inr (.inl x0)] => zb_toldAs R d x0 S | _ => none
def zf_329 : zFn ZS := fun R d as S => match as with | [.inl x1] => zb_shown R d x1 S | _ => none
def zf_330 : zFn ZS := fun R d as S => match as with | [.inl x1, .inl x2] => zb_sayType R d x1 x2 S | _ => none
def zf_331 : zFn ZS := fun R d as S => match as with | [.inl x1] => zb_sayVariable R d x1 S | _ => none
def zf_332 : zFn ZS := fun R d as S => match as with | [.inl x1] => zb_isTuple R d x1 S | _ => none
def zf_333 : zFn ZS := fun R d as S => match as with | [.inl x1] => zb_sayRowType R d x1 S | _ => none
def zf_334 : zFn ZS := fun R d as S => match as with | [.inl x1] => zb_sayMadeType R d x1 S | _ => none
def zf_335 : zFn ZS := fun R d as S => match as with | [.inl x1, .inl x2] => zb_tellType R d x1 x2 S | _ => none
def zf_336 : zFn ZS := fun R d as S => match as with | [.inl x1] => zb_sayVars R d x1 S | _ => none
def zf_337 : zFn ZS := fun R d as S => match as with | [.inl x1] => zb_tellData R d x1 S | _ => none
def zf_338 : zFn ZS := fun R d as S => match as with | [.inl x1] => zb_listed0 R d x1 S | _ => none
def zf_339 : zFn ZS := fun R d as S => match as with | [.inl x1, .inl x2] => zb_letter R d x1 x2 S | _ => none
def zf_340 : zFn ZS := fun R d as S => match as with | [.inl x1, .inl x2] => zb_note R d x1 x2 S | _ => none
def zf_341 : zFn ZS := fun R d as S => match as with | [.inl x1] => zb_out R d x1 S | _ => none
def zf_342 : zFn ZS := fun R d as S => match as with | [] => zb_outs R d  S | _ => none
def zf_343 : zFn ZS := fun R d as S => match as with | [] => zb_keep_2 R d  S | _ => none
def zf_344 : zFn ZS := fun R d as S => match as with | [.inl x1] => zb_back_2 R d x1 S | _ => none
def zf_345 : zFn ZS := fun R d as S => match as with | [] => zb_clear R d  S | _ => none
def zf_346 : zFn ZS := fun R d as S => match as with | [.inl x1, .inl x2, .inl x3, .inl x4, .inl x5, .inl x6] => zb_feed_p23 R d x1 x2 x3 x4 x5 x6 S | _ => none
def zf_347 : zFn ZS := fun R d as S => match as with | [.inl x1, .inl x2] => zb_end_p21 R d x1 x2 S | _ => none
def zf_348 : zFn ZS := fun R d as S => match as with | [.inl x3, .inl x4, .inl x6, .inl y0, .inl y1] => zb_type_p42 R d x3 x4 x6 y0 y1 S | _ => none
def zf_349 : zFn ZS := fun R d as S => match as with | [.inl x3] => zb_sign0_p50 R d x3 S | _ => none
def zf_350 : zFn ZS := fun R d as S => match as with | [.inl x2, .inl x3, .inl x4] => zb_sign0_p98 R d x2 x3 x4 S | _ => none
def zf_351 : zFn ZS := fun R d as S => match as with | [.inl x2, .inl x3] => zb_sign0_p211 R d x2 x3 S | _ => none
def zf_352 : zFn ZS := fun R d as S => match as with | [.inl x1, .inl x2] => zb_find_p2 R d x1 x2 S | _ => none
def zf_353 : zFn ZS := fun R d as S => match as with | [.inl x1, .inl y0, .inl y1] => zb_variableOf_p48 R d x1 y0 y1 S | _ => none
def zf_354 : zFn ZS := fun R d as S => match as with | [.inl y0, .inl y1, .inl y2] => zb_fix_p26 R d y0 y1 y2 S | _ => none
def zf_355 : zFn ZS := fun R d as S => match as with | [.inl x1, .inl x2, .inl x3, .inl x4] => zb_withField_p26 R d x1 x2 x3 x4 S | _ => none
def zf_356 : zFn ZS := fun R d as S => match as with | [.inl x1] => zb_input_p148 R d x1 S | _ => none
def zf_357 : zFn ZS := fun R d as S => match as with | [.inl x1] => zb_read_p123 R d x1 S | _ => none
def zf_358 : zFn ZS := fun R d as S => match as with | [.inl x1, .inl x2] => zb_gaps_p60 R d x1 x2 S | _ => none
def zf_359 : zFn ZS := fun R d as S => match as with | [.inl x0] => zb_isLetter_p12 R d x0 S | _ => none
def zf_360 : zFn ZS := fun R d as S => match as with | [.inl x2, .inl x3] => zb_nameAt_text R d x2 x3 S | _ => none
def zf_361 : zFn ZS := fun R d as S => match as with | [] => zb_readVariable_p29 R d  S | _ => none
def zf_362 : zFn ZS := fun R d as S => match as with | [.inl y0] => zb_readInt_p14 R d y0 S | _ => none
def zf_363 : zFn ZS := fun R d as S => match as with | [.inl x1, .inl y0, .inl y1] => zb_readString_p14 R d x1 y0 y1 S | _ => none
def zf_364 : zFn ZS := fun R d as S => match as with | [.inl x1] => zb_readEscape_p29 R d x1 S | _ => none
def zf_365 : zFn ZS := fun R d as S => match as with | [.inl x2, .inl x3] => zb_readEscape_p71 R d x2 x3 S | _ => none
def zf_366 : zFn ZS := fun R d as S => match as with | [.inl y0] => zb_readSigns_p65 R d y0 S | _ => none
def zf_367 : zFn ZS := fun R d as S => match as with | [] => zb_readSigns_p41 R d  S | _ => none
def zf_368 : zFn ZS := fun R d as S => match as with | [.inl x2] => zb_readOther_p8 R d x2 S | _ => none
def zf_369 : zFn ZS := fun R d as S => match as with | [] => zb_readOther_p115 R d  S | _ => none
def zf_370 : zFn ZS := fun R d as S => match as with | [.inl x1, .inl x2, .inl x3, .inl x4] => zb_decs_p10 R d x1 x2 x3 x4 S | _ => none
def zf_371 : zFn ZS := fun R d as S => match as with | [.inl x1, .inl y0] => zb_dec_p95 R d x1 y0 S | _ => none
def zf_372 : zFn ZS := fun R d as S => match as with | [.inl x1, .inl x2, .inl y0] => zb_local_p25 R d x1 x2 y0 S | _ => none
def zf_373 : zFn ZS := fun R d as S => match as with | [.inl x1, .inl x2, .inl x3] => zb_binds_p6 R d x1 x2 x3 S | _ => none
def zf_374 : zFn ZS := fun R d as S => match as with | [.inl x1, .inl y0] => zb_pattern_p19 R d x1 y0 S | _ => none
def zf_375 : zFn ZS := fun R d as S => match as with | [.inl x1, .inl x2] => zb_infixed_p10 R d x1 x2 S | _ => none
def zf_376 : zFn ZS := fun R d as S => match as with | [.inl y0] => zb_push_p15 R d y0 S | _ => none
def zf_377 : zFn ZS := fun R d as S => match as with | [.inl x1, .inl y0] => zb_appliedPattern_p41 R d x1 y0 S | _ => none
def zf_378 : zFn ZS := fun R d as S => match as with | [.inl x1, .inl x2] => zb_fixOf_p5 R d x1 x2 S | _ => none
def zf_379 : zFn ZS := fun R d as S => match as with | [] => zb_atomPattern_p50 R d  S | _ => none
def zf_380 : zFn ZS := fun R d as S => match as with | [.inl x1, .inl y0] => zb_atomPattern_p145 R d x1 y0 S | _ => none
def zf_381 : zFn ZS := fun R d as S => match as with | [.inl x1, .inl x2, .inl x3, .inl x4, .inl x5] => zb_patternRow_p27 R d x1 x2 x3 x4 x5 S | _ => none
def zf_382 : zFn ZS := fun R d as S => match as with | [.inl x1, .inl y0] => zb_patternField_p18 R d x1 y0 S | _ => none
def zf_383 : zFn ZS := fun R d as S => match as with | [.inl x1, .inl x2, .inl x3, .inl x4] => zb_tupleType_p56 R d x1 x2 x3 x4 S | _ => none
def zf_384 : zFn ZS := fun R d as S => match as with | [.inl x1] => zb_suffixed_p5 R d x1 S | _ => none
def zf_385 : zFn ZS := fun R d as S => match as with | [.inl x1] => zb_atomicType_p74 R d x1 S | _ => none
def zf_386 : zFn ZS := fun R d as S => match as with | [.inl x1, .inl x2, .inl x3, .inl x4] => zb_typeRow_p20 R d x1 x2 x3 x4 S | _ => none
def zf_387 : zFn ZS := fun R d as S => match as with | [.inl x1, .inl x2] => zb_typeRow_p94 R d x1 x2 S | _ => none
def zf_388 : zFn ZS := fun R d as S => match as with | [.inl x1, .inl x2, .inl y0] => zb_patternHeld_p15 R d x1 x2 y0 S | _ => none
def zf_389 : zFn ZS := fun R d as S => match as with | [.inl x1] => zb_applications_p5 R d x1 S | _ => none
def zf_390 : zFn ZS := fun R d as S => match as with | [] => zb_atom_p29 R d  S | _ => none
def zf_391 : zFn ZS := fun R d as S => match as with | [.inl x1, .inl y0] => zb_atom_p201 R d x1 y0 S | _ => none
def zf_392 : zFn ZS := fun R d as S => match as with | [.inl y0, .inl y1, .inl y2, .inl y3] => zb_atom_p155 R d y0 y1 y2 y3 S | _ => none
def zf_393 : zFn ZS := fun R d as S => match as with | [.inl x1, .inl x2, .inl x3, .inl x4] => zb_expressionRow_p24 R d x1 x2 x3 x4 S | _ => none
def zf_394 : zFn ZS := fun R d as S => match as with | [.inl x2] => zb_expression_p254 R d x2 S | _ => none
def zf_395 : zFn ZS := fun R d as S => match as with | [.inl x1, .inl x2] => zb_match_p7 R d x1 x2 S | _ => none
def zf_396 : zFn ZS := fun R d as S => match as with | [.inl x1] => zb_orelse_p5 R d x1 S | _ => none
def zf_397 : zFn ZS := fun R d as S => match as with | [.inl x1] => zb_andalso_p5 R d x1 S | _ => none
def zf_398 : zFn ZS := fun R d as S => match as with | [.inl x1] => zb_typed_p6 R d x1 S | _ => none
def zf_399 : zFn ZS := fun R d as S => match as with | [.inl x1, .inl x2, .inl x3] => zb_expressionHeld_p114 R d x1 x2 x3 S | _ => none
def zf_400 : zFn ZS := fun R d as S => match as with | [.inl x1, .inl x2, .inl x3] => zb_row_p7 R d x1 x2 x3 S | _ => none
def zf_401 : zFn ZS := fun R d as S => match as with | [.inl x1, .inl x2, .inl y0] => zb_let_p25 R d x1 x2 y0 S | _ => none
def zf_402 : zFn ZS := fun R d as S => match as with | [] => zb_isInfixHere_p17 R d  S | _ => none
def zf_403 : zFn ZS := fun R d as S => match as with | [.inl x2, .inl x3, .inl x4, .inl x5, .inl y0, .inl y2] => zb_reduce_p88 R d x2 x3 x4 x5 y0 y2 S | _ => none
def zf_404 : zFn ZS := fun R d as S => match as with | [.inl x1, .inl x2, .inl x3] => zb_functions_p6 R d x1 x2 x3 S | _ => none
def zf_405 : zFn ZS := fun R d as S => match as with | [.inl x1, .inl x2] => zb_clauses_p7 R d x1 x2 S | _ => none
def zf_406 : zFn ZS := fun R d as S => match as with | [.inl x1, .inl y0] => zb_clause_p29 R d x1 y0 S | _ => none
def zf_407 : zFn ZS := fun R d as S => match as with | [.inl x1, .inl x2, .inl x3] => zb_variables_p50 R d x1 x2 x3 S | _ => none
def zf_408 : zFn ZS := fun R d as S => match as with | [.inl x1, .inl x2, .inl x3] => zb_datas_p6 R d x1 x2 x3 S | _ => none
def zf_409 : zFn ZS := fun R d as S => match as with | [.inl x1, .inl x2, .inl x3] => zb_constructors_p6 R d x1 x2 x3 S | _ => none
def zf_410 : zFn ZS := fun R d as S => match as with | [.inl x1, .inl x3, .inl y0] => zb_exception_p27 R d x1 x3 y0 S | _ => none
def zf_411 : zFn ZS := fun R d as S => match as with | [.inl x1, .inl x2, .inl y0] => zb_infixes_p11 R d x1 x2 y0 S | _ => none
def zf_412 : zFn ZS := fun R d as S => match as with | [.inl x2, .inl x3, .inl x4, .inl x5, .inl x6] => zb_judgedVal_p42 R d x2 x3 x4 x5 x6 S | _ => none
def zf_413 : zFn ZS := fun R d as S => match as with | [.inl x2, .inl x3] => zb_enterVariables_p23 R d x2 x3 S | _ => none
def zf_414 : zFn ZS := fun R d as S => match as with | [.inl x2, .inl x3] => zb_lookAll_p2 R d x2 x3 S | _ => none
def zf_415 : zFn ZS := fun R d as S => match as with | [.inl x2, .inl x3] => zb_look_p2 R d x2 x3 S | _ => none
def zf_416 : zFn ZS := fun R d as S => match as with | [.inl x1, .inl x2, .inl x3] => zb_found_p2 R d x1 x2 x3 S | _ => none
def zf_417 : zFn ZS := fun R d as S => match as with | [.inl x1, .inl x2, .inl x3, .inl y0] => zb_patternName_p43 R d x1 x2 x3 y0 S | _ => none
def zf_418 : zFn ZS := fun R d as S => match as with | [.inl x1, .inl x2] => zb_valueOf_p5 R d x1 x2 S | _ => none
def zf_419 : zFn ZS := fun R d as S => match as with | [.inl y0] => zb_hasArgument_p35 R d y0 S | _ => none
def zf_420 : zFn ZS := fun R d as S => match as with | [.inl x1, .inl x2] => zb_meet_p69 R d x1 x2 S | _ => none
def zf_421 : zFn ZS := fun R d as S => match as with | [.inl x1, .inl x3] => zb_use_p18 R d x1 x3 S | _ => none
def zf_422 : zFn ZS := fun R d as S => match as with | [.inl x2, .inl x3] => zb_isUsed_p7 R d x2 x3 S | _ => none
def zf_423 : zFn ZS := fun R d as S => match as with | [.inl x1, .inl x2, .inl x3] => zb_readSign_p31 R d x1 x2 x3 S | _ => none
def zf_424 : zFn ZS := fun R d as S => match as with | [.inl x1, .inl x2, .inl y0] => zb_readSign_p134 R d x1 x2 y0 S | _ => none
def zf_425 : zFn ZS := fun R d as S => match as with | [.inl x2, .inl x3] => zb_instanceOf_p28 R d x2 x3 S | _ => none
def zf_426 : zFn ZS := fun R d as S => match as with | [.inl x1, .inl x2] => zb_enter_p37 R d x1 x2 S | _ => none
def zf_427 : zFn ZS := fun R d as S => match as with | [.inl x1, .inl x2, .inl x3] => zb_copied_p9 R d x1 x2 x3 S | _ => none
def zf_428 : zFn ZS := fun R d as S => match as with | [.inl x1, .inl x2, .inl x3] => zb_pend_p21 R d x1 x2 x3 S | _ => none
def zf_429 : zFn ZS := fun R d as S => match as with | [.inl x1, .inl x2] => zb_patternCon_p48 R d x1 x2 S | _ => none
def zf_430 : zFn ZS := fun R d as S => match as with | [.inl x1] => zb_patternCon_p56 R d x1 S | _ => none
def zf_431 : zFn ZS := fun R d as S => match as with | [.inl x1, .inl x3] => zb_joined_p18 R d x1 x3 S | _ => none
def zf_432 : zFn ZS := fun R d as S => match as with | [.inl x1, .inl x2] => zb_merge_p51 R d x1 x2 S | _ => none
def zf_433 : zFn ZS := fun R d as S => match as with | [.inl x1, .inl x2, .inl y0] => zb_mergeRows_p17 R d x1 x2 y0 S | _ => none
def zf_434 : zFn ZS := fun R d as S => match as with | [.inl x2, .inl x3] => zb_partOf_p2 R d x2 x3 S | _ => none
def zf_435 : zFn ZS := fun R d as S => match as with | [.inl x1, .inl x2, .inl y0] => zb_allFields_p18 R d x1 x2 y0 S | _ => none
def zf_436 : zFn ZS := fun R d as S => match as with | [.inl x2, .inl x3] => zb_fieldsFrom_p4 R d x2 x3 S | _ => none
def zf_437 : zFn ZS := fun R d as S => match as with | [.inl x3, .inl x4] => zb_mergeMade_p38 R d x3 x4 S | _ => none
def zf_438 : zFn ZS := fun R d as S => match as with | [.inl x1, .inl y0, .inl y1] => zb_isEndless_p54 R d x1 y0 y1 S | _ => none
def zf_439 : zFn ZS := fun R d as S => match as with | [.inl x1] => zb_admit_p121 R d x1 S | _ => none
def zf_440 : zFn ZS := fun R d as S => match as with | [.inl x2, .inl x3, .inl x4] => zb_patternTuple_p12 R d x2 x3 x4 S | _ => none
def zf_441 : zFn ZS := fun R d as S => match as with | [.inl x1, .inl x2, .inl x3] => zb_patternParts_p9 R d x1 x2 x3 S | _ => none
def zf_442 : zFn ZS := fun R d as S => match as with | [.inl x2, .inl x3] => zb_patternList_p9 R d x2 x3 S | _ => none
def zf_443 : zFn ZS := fun R d as S => match as with | [.inl x1, .inl x2] => zb_toldVariable_p7 R d x1 x2 S | _ => none
def zf_444 : zFn ZS := fun R d as S => match as with | [.inl x2, .inl x3] => zb_toldName_p7 R d x2 x3 S | _ => none
def zf_445 : zFn ZS := fun R d as S => match as with | [.inl x1, .inl x2, .inl x3, .inl x4, .inl x5, .inl x6] => zb_toldOne_p16 R d x1 x2 x3 x4 x5 x6 S | _ => none
def zf_446 : zFn ZS := fun R d as S => match as with | [.inl x1, .inl x2] => zb_typeNamed_p5 R d x1 x2 S | _ => none
def zf_447 : zFn ZS := fun R d as S => match as with | [.inl x1, .inl x3] => zb_standsFor_p7 R d x1 x3 S | _ => none
def zf_448 : zFn ZS := fun R d as S => match as with | [.inl x2, .inl x3] => zb_toldRow_p9 R d x2 x3 S | _ => none
def zf_449 : zFn ZS := fun R d as S => match as with | [.inl x1] => zb_patternAs_p49 R d x1 S | _ => none
def zf_450 : zFn ZS := fun R d as S => match as with | [.inl x1] => zb_patternAs_p36 R d x1 S | _ => none
def zf_451 : zFn ZS := fun R d as S => match as with | [.inl x4, .inl y0, .inl y1] => zb_judgedName_p90 R d x4 y0 y1 S | _ => none
def zf_452 : zFn ZS := fun R d as S => match as with | [.inl x2, .inl x3] => zb_judgedRow_p9 R d x2 x3 S | _ => none
def zf_453 : zFn ZS := fun R d as S => match as with | [.inl x2, .inl x3, .inl x4] => zb_judgedTuple_p12 R d x2 x3 x4 S | _ => none
def zf_454 : zFn ZS := fun R d as S => match as with | [.inl x1, .inl x2, .inl x3] => zb_judgedApplication_p4 R d x1 x2 x3 S | _ => none
def zf_455 : zFn ZS := fun R d as S => match as with | [.inl x4, .inl x5, .inl x6, .inr (.inl x7), .inl x9] => zb_rules_p12 R d x4 x5 x6 x7 x9 S | _ => none
def zf_456 : zFn ZS := fun R d as S => match as with | [.inl x1, .inl x2] => zb_bindPending_p2 R d x1 x2 S | _ => none
def zf_457 : zFn ZS := fun R d as S => match as with | [.inl x3, .inl x4] => zb_countOf_p184 R d x3 x4 S | _ => none
def zf_458 : zFn ZS := fun R d as S => match as with | [.inl x4, .inl x5] => zb_countOf_p229 R d x4 x5 S | _ => none
def zf_459 : zFn ZS := fun R d as S => match as with | [.inl x2, .inl x3] => zb_countOf_p138 R d x2 x3 S | _ => none
def zf_460 : zFn ZS := fun R d as S => match as with | [.inl x4, .inr (.inl y0)] => zb_times_p13 R d x4 y0 S | _ => none
def zf_461 : zFn ZS := fun R d as S => match as with | [.inl x1, .inl x2, .inl x3] => zb_endCode_p19 R d x1 x2 x3 S | _ => none
def zf_462 : zFn ZS := fun R d as S => match as with | [.inl x7, .inl x8] => zb_judgedOther_p245 R d x7 x8 S | _ => none
def zf_463 : zFn ZS := fun R d as S => match as with | [.inl x2, .inl x3] => zb_judgedSequence_p4 R d x2 x3 S | _ => none
def zf_464 : zFn ZS := fun R d as S => match as with | [.inl x1, .inl x2, .inl x3, .inl x4, .inl x5, .inl x6] => zb_judgedLet_p40 R d x1 x2 x3 x4 x5 x6 S | _ => none
def zf_465 : zFn ZS := fun R d as S => match as with | [.inl x2, .inl x3] => zb_does_p115 R d x2 x3 S | _ => none
def zf_466 : zFn ZS := fun R d as S => match as with | [.inl x3, .inl x4] => zb_does_p165 R d x3 x4 S | _ => none
def zf_467 : zFn ZS := fun R d as S => match as with | [.inl x1] => zb_isMaker_p21 R d x1 S | _ => none
def zf_468 : zFn ZS := fun R d as S => match as with | [.inl x1, .inl x2, .inl x3, .inl x4] => zb_through_p3 R d x1 x2 x3 x4 S | _ => none
def zf_469 : zFn ZS := fun R d as S => match as with | [.inl x2, .inl x3] => zb_sizeOf_p40 R d x2 x3 S | _ => none
def zf_470 : zFn ZS := fun R d as S => match as with | [.inl x1, .inl x2] => zb_enterSize_p39 R d x1 x2 S | _ => none
def zf_471 : zFn ZS := fun R d as S => match as with | [.inl x1, .inl x2, .inl x3] => zb_markRim_p2 R d x1 x2 x3 S | _ => none
def zf_472 : zFn ZS := fun R d as S => match as with | [.inl x2, .inl x4] => zb_spreadRim_p38 R d x2 x4 S | _ => none
def zf_473 : zFn ZS := fun R d as S => match as with | [.inl x3] => zb_generalise_p35 R d x3 S | _ => none
def zf_474 : zFn ZS := fun R d as S => match as with | [.inl x1, .inl x2] => zb_bindLines_p2 R d x1 x2 S | _ => none
def zf_475 : zFn ZS := fun R d as S => match as with | [.inl x1, .inl x2, .inl x3, .inl x4, .inl x5, .inl x6, .inl x7] => zb_judgedRec_p48 R d x1 x2 x3 x4 x5 x6 x7 S | _ => none
def zf_476 : zFn ZS := fun R d as S => match as with | [.inl x1, .inl x2, .inl x3, .inl x4, .inl x5, .inl x6, .inl x7] => zb_judgedFun_p48 R d x1 x2 x3 x4 x5 x6 x7 S | _ => none
def zf_477 : zFn ZS := fun R d as S => match as with | [.inl x1, .inl x2, .inl x3, .inl x4, .inl x5] => zb_judgedFunction_p18 R d x1 x2 x3 x4 x5 S | _ => none
def zf_478 : zFn ZS := fun R d as S => match as with | [.inl x1, .inl x2, .inl x3, .inl x4, .inl x5, .inl x6, .inl x7, .inl x8] => zb_judgedClause_p53 R d x1 x2 x3 x4 x5 x6 x7 x8 S | _ => none
def zf_479 : zFn ZS := fun R d as S => match as with | [.inl x1, .inl x2, .inl x3, .inl x4, .inl x5, .inl x6, .inl x7] => zb_judgedType_p96 R d x1 x2 x3 x4 x5 x6 x7 S | _ => none
def zf_480 : zFn ZS := fun R d as S => match as with | [.inl x2, .inl x3, .inl x4, .inl x5] => zb_listed_p10 R d x2 x3 x4 x5 S | _ => none
def zf_481 : zFn ZS := fun R d as S => match as with | [.inl x1, .inl x2, .inl x3, .inl x4, .inl x5, .inl x6] => zb_judgedData_p43 R d x1 x2 x3 x4 x5 x6 S | _ => none
def zf_482 : zFn ZS := fun R d as S => match as with | [.inl x2, .inl x3, .inl x4, .inl x5] => zb_judgedCons_p45 R d x2 x3 x4 x5 S | _ => none
def zf_483 : zFn ZS := fun R d as S => match as with | [.inl x3] => zb_admits_p35 R d x3 S | _ => none
def zf_484 : zFn ZS := fun R d as S => match as with | [.inl x1, .inl x2, .inl y0] => zb_judgedException_p70 R d x1 x2 y0 S | _ => none
def zf_485 : zFn ZS := fun R d as S => match as with | [.inl x1, .inl x2, .inl x3, .inl x4, .inl x5] => zb_judgedLocal_p29 R d x1 x2 x3 x4 x5 S | _ => none
def zf_486 : zFn ZS := fun R d as S => match as with | [.inl x1, .inl x2] => zb_finish_p4 R d x1 x2 S | _ => none
def zf_487 : zFn ZS := fun R d as S => match as with | [.inl x3] => zb_hasUnknown_p35 R d x3 S | _ => none
def zf_488 : zFn ZS := fun R d as S => match as with | [.inl x1] => zb_noteAll_p7 R d x1 S | _ => none
def zf_489 : zFn ZS := fun R d as S => match as with | [.inl x1, .inl x2, .inl x3, .inl x4, .inl x5, .inl x6] => zb_isUseful_p25 R d x1 x2 x3 x4 x5 x6 S | _ => none
def zf_490 : zFn ZS := fun R d as S => match as with | [.inl x1, .inl x3, .inl x4, .inl x5, .inl x6, .inl x7] => zb_usefulHere_p59 R d x1 x3 x4 x5 x6 x7 S | _ => none
def zf_491 : zFn ZS := fun R d as S => match as with | [.inl x1] => zb_takesAll_p2 R d x1 S | _ => none
def zf_492 : zFn ZS := fun R d as S => match as with | [.inl x2] => zb_bare0_p2 R d x2 S | _ => none
def zf_493 : zFn ZS := fun R d as S => match as with | [.inl y0] => zb_headOf_p90 R d y0 S | _ => none
def zf_494 : zFn ZS := fun R d as S => match as with | [.inl x1] => zb_rowStep_p7 R d x1 S | _ => none
def zf_495 : zFn ZS := fun R d as S => match as with | [.inl x2, .inl x3] => zb_labelsOf_p74 R d x2 x3 S | _ => none
def zf_496 : zFn ZS := fun R d as S => match as with | [.inl x2] => zb_labelsOf_p119 R d x2 S | _ => none
def zf_497 : zFn ZS := fun R d as S => match as with | [.inl x1, .inl x2] => zb_labelsOf_p15 R d x1 x2 S | _ => none
def zf_498 : zFn ZS := fun R d as S => match as with | [.inl x2, .inl x3, .inl x4] => zb_partAt_p118 R d x2 x3 x4 S | _ => none
def zf_499 : zFn ZS := fun R d as S => match as with | [.inl x2, .inl x3] => zb_partAt_p149 R d x2 x3 S | _ => none
def zf_500 : zFn ZS := fun R d as S => match as with | [.inl x1, .inl x2] => zb_hasLabel_p2 R d x1 x2 S | _ => none
def zf_501 : zFn ZS := fun R d as S => match as with | [.inl x1, .inl x2, .inl x3, .inl x4, .inl x5, .inl x6] => zb_narrowed_p21 R d x1 x2 x3 x4 x5 x6 S | _ => none
def zf_502 : zFn ZS := fun R d as S => match as with | [.inl x1, .inl x2, .inl x3] => zb_isSameConstant_p19 R d x1 x2 x3 S | _ => none
def zf_503 : zFn ZS := fun R d as S => match as with | [.inl x0, .inl x1] => zb_J8_min R d x0 x1 S | _ => none
def zf_504 : zFn ZS := fun R d as S => match as with | [.inl x1, .inl x2, .inl x3, .inl x4] => zb_order0_p17 R d x1 x2 x3 x4 S | _ => none
def zf_505 : zFn ZS := fun R d as S => match as with | [.inl x1, .inl x2] => zb_areAllTold_p7 R d x1 x2 S | _ => none
def zf_506 : zFn ZS := fun R d as S => match as with | [.inl x1, .inl x2, .inl x3, .inl x4, .inl x5, .inl x6, .inl x7] => zb_usefulByEach_p33 R d x1 x2 x3 x4 x5 x6 x7 S | _ => none
def zf_507 : zFn ZS := fun R d as S => match as with | [.inl x1, .inl x2, .inl x3] => zb_slide_p14 R d x1 x2 x3 S | _ => none
def zf_508 : zFn ZS := fun R d as S => match as with | [.inl x1, .inl x2, .inl x3] => zb_note0_p5 R d x1 x2 x3 S | _ => none
def zf_509 : zFn ZS := fun R d as S => match as with | [] => zb_runAll_p24 R d  S | _ => none
def zf_510 : zFn ZS := fun R d as S => match as with | [.inl x2, .inr (.inl x3), .inl y0, .inl y1, .inl y2] => zb_push0_p20 R d x2 x3 y0 y1 y2 S | _ => none
def zf_511 : zFn ZS := fun R d as S => match as with | [.inl x2, .inl x3] => zb_work_p2 R d x2 x3 S | _ => none
def zf_512 : zFn ZS := fun R d as S => match as with | [.inl x1, .inl x2, .inl x3] => zb_placeIn_p2 R d x1 x2 x3 S | _ => none
def zf_513 : zFn ZS := fun R d as S => match as with | [.inl x1, .inl x2, .inl x3, .inl x4] => zb_closure_p38 R d x1 x2 x3 x4 S | _ => none
def zf_514 : zFn ZS := fun R d as S => match as with | [.inl x2, .inl x3] => zb_applications0_p2 R d x2 x3 S | _ => none
def zf_515 : zFn ZS := fun R d as S => match as with | [.inl x1, .inl x2] => zb_sequence_p23 R d x1 x2 S | _ => none
def zf_516 : zFn ZS := fun R d as S => match as with | [.inl x1, .inl x2, .inl y0] => zb_goesOn_2_p58 R d x1 x2 y0 S | _ => none
def zf_517 : zFn ZS := fun R d as S => match as with | [.inr (.inl x2), .inl x4, .inl x5, .inl x6] => zb_choose_p3 R d x2 x4 x5 x6 S | _ => none
def zf_518 : zFn ZS := fun R d as S => match as with | [.inr (.inl x2), .inl x4, .inl x5] => zb_matchesRow_p11 R d x2 x4 x5 S | _ => none
def zf_519 : zFn ZS := fun R d as S => match as with | [.inr (.inl x1), .inl x3, .inl x4, .inl x5] => zb_part_p10 R d x1 x3 x4 x5 S | _ => none
def zf_520 : zFn ZS := fun R d as S => match as with | [.inr (.inl x2), .inl x4, .inl x5, .inl x6] => zb_matchesTuple_p14 R d x2 x4 x5 x6 S | _ => none
def zf_521 : zFn ZS := fun R d as S => match as with | [.inr (.inl x4), .inl x6] => zb_matchesList_p11 R d x4 x6 S | _ => none
def zf_522 : zFn ZS := fun R d as S => match as with | [.inl x1, .inr (.inl x2), .inr (.inl y0), .inr (.inl y1)] => zb_isMadeBy_p82 R d x1 x2 y0 y1 S | _ => none
def zf_523 : zFn ZS := fun R d as S => match as with | [.inl x2, .inl x3, .inr (.inl x4), .inr (.inl x6)] => zb_goesOnMore_p79 R d x2 x3 x4 x6 S | _ => none
def zf_524 : zFn ZS := fun R d as S => match as with | [.inr (.inl x1), .inr (.inl x3), .inl x5, .inl x6, .inl y0] => zb_apply_p144 R d x1 x3 x5 x6 y0 S | _ => none
def zf_525 : zFn ZS := fun R d as S => match as with | [.inl x6, .inl x9] => zb_firstOf_p319 R d x6 x9 S | _ => none
def zf_526 : zFn ZS := fun R d as S => match as with | [.inl y0, .inl y1] => zb_first_p113 R d y0 y1 S | _ => none
def zf_527 : zFn ZS := fun R d as S => match as with | [.inl x1, .inr (.inl x6), .inr (.inl x8), .inr (.inl x11)] => zb_first_p302 R d x1 x6 x8 x11 S | _ => none
def zf_528 : zFn ZS := fun R d as S => match as with | [.inl x1, .inr (.inl x6), .inr (.inl x8), .inr (.inl x11), .inl y0] => zb_first_p281 R d x1 x6 x8 x11 y0 S | _ => none
def zf_529 : zFn ZS := fun R d as S => match as with | [.inl x5, .inr (.inl x6), .inr (.inl x8)] => zb_areEqual_p9 R d x5 x6 x8 S | _ => none
def zf_530 : zFn ZS := fun R d as S => match as with | [.inl x0, .inl x1] => zb_J19_compare R d x0 x1 S | _ => none
def zf_531 : zFn ZS := fun R d as S => match as with | [.inl x5, .inl x6, .inr (.inl x8), .inl x10] => zb_joinedStrings_p69 R d x5 x6 x8 x10 S | _ => none
def zf_532 : zFn ZS := fun R d as S => match as with | [.inl x1, .inl x2, .inl x3, .inr (.inl x4), .inl x6] => zb_substringOf_p55 R d x1 x2 x3 x4 x6 S | _ => none
def zf_533 : zFn ZS := fun R d as S => match as with | [.inl x1, .inr (.inl x2), .inl x4] => zb_exploded_p21 R d x1 x2 x4 S | _ => none
def zf_534 : zFn ZS := fun R d as S => match as with | [.inl x1, .inl x2] => zb_tuple_p41 R d x1 x2 S | _ => none
def zf_535 : zFn ZS := fun R d as S => match as with | [.inr (.inl x1), .inl x3, .inr (.inl x4)] => zb_imploded_p5 R d x1 x3 x4 S | _ => none
def zf_536 : zFn ZS := fun R d as S => match as with | [.inr (.inl x1), .inr (.inl y0)] => zb_digitsOf_p12 R d x1 y0 S | _ => none
def zf_537 : zFn ZS := fun R d as S => match as with | [] => zb_putOut_p20 R d  S | _ => none
def zf_538 : zFn ZS := fun R d as S => match as with | [.inr (.inl x1), .inr (.inl x3), .inl x5, .inl x6, .inl x7] => zb_partial_p52 R d x1 x3 x5 x6 x7 S | _ => none
def zf_539 : zFn ZS := fun R d as S => match as with | [.inl x0, .inl x1] => zb_J8_max R d x0 x1 S | _ => none
def zf_540 : zFn ZS := fun R d as S => match as with | [.inr (.inl x1), .inr (.inl x3), .inl x5] => zb_call_p115 R d x1 x3 x5 S | _ => none
def zf_541 : zFn ZS := fun R d as S => match as with | [.inl x2] => zb_body_p50 R d x2 S | _ => none
def zf_542 : zFn ZS := fun R d as S => match as with | [.inl x1, .inl x2] => zb_rec_p7 R d x1 x2 S | _ => none
def zf_543 : zFn ZS := fun R d as S => match as with | [.inl x2] => zb_nameIn_p2 R d x2 S | _ => none
def zf_544 : zFn ZS := fun R d as S => match as with | [.inl x1, .inr (.inl x2), .inl x4] => zb_tie_p3 R d x1 x2 x4 S | _ => none
def zf_545 : zFn ZS := fun R d as S => match as with | [.inl x1, .inl x2] => zb_fun_p7 R d x1 x2 S | _ => none
def zf_546 : zFn ZS := fun R d as S => match as with | [.inl x1, .inl x2, .inl x7, .inl x8] => zb_oneMore_p68 R d x1 x2 x7 x8 S | _ => none
def zf_547 : zFn ZS := fun R d as S => match as with | [.inr (.inl x2), .inl x4] => zb_listOf_p17 R d x2 x4 S | _ => none
def zf_548 : zFn ZS := fun R d as S => match as with | [.inl x1, .inl x3, .inl x4, .inr (.inl y0), .inl y1] => zb_rowOf_p46 R d x1 x3 x4 y0 y1 S | _ => none
def zf_549 : zFn ZS := fun R d as S => match as with | [.inl x1, .inl x2, .inl x3] => zb_shapeOf_p38 R d x1 x2 x3 S | _ => none
def zf_550 : zFn ZS := fun R d as S => match as with | [.inl x1, .inl x2] => zb_isAhead_p8 R d x1 x2 S | _ => none
def zf_551 : zFn ZS := fun R d as S => match as with | [.inl x1, .inl x2, .inl x3, .inl x4] => zb_isAhead_p46 R d x1 x2 x3 x4 S | _ => none
def zf_552 : zFn ZS := fun R d as S => match as with | [.inl x1, .inl x2] => zb_likeShape_p2 R d x1 x2 S | _ => none
def zf_553 : zFn ZS := fun R d as S => match as with | [.inl x1] => zb_unwind_p48 R d x1 S | _ => none
def zf_554 : zFn ZS := fun R d as S => match as with | [.inl x1, .inl x2, .inl x3] => zb_keepBound_p22 R d x1 x2 x3 S | _ => none
def zf_555 : zFn ZS := fun R d as S => match as with | [.inl x1, .inl x2] => zb_keepInfix_p7 R d x1 x2 S | _ => none
def zf_556 : zFn ZS := fun R d as S => match as with | [.inl x1, .inl x2] => zb_keepTypes_p7 R d x1 x2 S | _ => none
def zf_557 : zFn ZS := fun R d as S => match as with | [.inl x2, .inl x3, .inl y0] => zb_endOf_p32 R d x2 x3 y0 S | _ => none
def zf_558 : zFn ZS := fun R d as S => match as with | [.inl x1] => zb_noteLines_p10 R d x1 S | _ => none
def zf_559 : zFn ZS := fun _ _ _ _ => none
def zf_560 : zFn ZS := fun R d as S => match as with | [.inl x4, .inl x5] => zb_sayValue_p149 R d x4 x5 S | _ => none
def zf_561 : zFn ZS := fun R d as S => match as with | [.inr (.inl x1), .inr (.inl y0)] => zb_sayInt_p12 R d x1 y0 S | _ => none
def zf_562 : zFn ZS := fun R d as S => match as with | [.inl x1] => zb_sayByte_p44 R d x1 S | _ => none
def zf_563 : zFn ZS := fun R d as S => match as with | [.inl x1] => zb_sayByte_p70 R d x1 S | _ => none
def zf_564 : zFn ZS := fun R d as S => match as with | [.inl x1, .inl x2] => zb_sayName_p2 R d x1 x2 S | _ => none
def zf_565 : zFn ZS := fun R d as S => match as with | [.inr (.inl x1), .inl x3, .inl x4, .inl x5, .inl x6] => zb_sayRow_p23 R d x1 x3 x4 x5 x6 S | _ => none
def zf_566 : zFn ZS := fun R d as S => match as with | [.inr (.inl x1), .inl x3, .inl y0] => zb_sayBehind_p19 R d x1 x3 y0 S | _ => none
def zf_567 : zFn ZS := fun R d as S => match as with | [.inr (.inl x3)] => zb_isApplied_p25 R d x3 S | _ => none
def zf_568 : zFn ZS := fun R d as S => match as with | [.inl x3, .inl x5, .inr (.inl x6)] => zb_sayMade_p61 R d x3 x5 x6 S | _ => none
def zf_569 : zFn ZS := fun R d as S => match as with | [.inl x2, .inl x3, .inl y0] => zb_sayType_p57 R d x2 x3 y0 S | _ => none
def zf_570 : zFn ZS := fun R d as S => match as with | [.inl x1, .inl x2] => zb_sayVariable_p2 R d x1 x2 S | _ => none
def zf_571 : zFn ZS := fun R d as S => match as with | [.inl x1, .inl x2, .inl x3] => zb_isTuple_p9 R d x1 x2 x3 S | _ => none
def zf_572 : zFn ZS := fun R d as S => match as with | [.inl x1, .inl x2, .inl x3, .inl x4] => zb_sayRowType_p31 R d x1 x2 x3 x4 S | _ => none
def zf_573 : zFn ZS := fun R d as S => match as with | [.inl x1, .inl x2] => zb_sayMadeType_p42 R d x1 x2 S | _ => none
def zf_574 : zFn ZS := fun R d as S => match as with | [.inl x1] => zb_sayMadeType_p99 R d x1 S | _ => none
def zf_575 : zFn ZS := fun R d as S => match as with | [.inl x2, .inl x4] => zb_tellType_p49 R d x2 x4 S | _ => none
def zf_576 : zFn ZS := fun R d as S => match as with | [.inl x1, .inl y0] => zb_sayVars_p26 R d x1 y0 S | _ => none
def zf_577 : zFn ZS := fun R d as S => match as with | [.inl x2, .inl x3] => zb_tellData_p48 R d x2 x3 S | _ => none
def zf_578 : zFn ZS := fun R d as S => match as with | [.inl x2] => zb_listed0_p7 R d x2 S | _ => none
def zf_579 : zFn ZS := fun R d as S => match as with | [.inl x1, .inl x2] => zb_letter_p34 R d x1 x2 S | _ => none
def zf_580 : zFn ZS := fun R d as S => match as with | [.inl x1, .inl x2, .inl x3, .inl x4, .inl x5, .inl x6, .inl y0] => zb_feed_p76 R d x1 x2 x3 x4 x5 x6 y0 S | _ => none
def zf_581 : zFn ZS := fun R d as S => match as with | [.inl x4] => zb_sign0_p151 R d x4 S | _ => none
def zf_582 : zFn ZS := fun R d as S => match as with | [.inl x2, .inl x3] => zb_sign0_p235 R d x2 x3 S | _ => none
def zf_583 : zFn ZS := fun R d as S => match as with | [.inl x2, .inl x3] => zb_find_p24 R d x2 x3 S | _ => none
def zf_584 : zFn ZS := fun R d as S => match as with | [.inl x1, .inl x2, .inl x3, .inl x4] => zb_withField_p65 R d x1 x2 x3 x4 S | _ => none
def zf_585 : zFn ZS := fun R d as S => match as with | [.inl x1] => zb_read_p161 R d x1 S | _ => none
def zf_586 : zFn ZS := fun R d as S => match as with | [.inl x1, .inl x2, .inl x3] => zb_gaps_p113 R d x1 x2 x3 S | _ => none
def zf_587 : zFn ZS := fun R d as S => match as with | [.inl x2, .inl x3, .inl x4, .inl x5] => zb_nameAt_text_p6 R d x2 x3 x4 x5 S | _ => none
def zf_588 : zFn ZS := fun R d as S => match as with | [] => zb_readVariable_p49 R d  S | _ => none
def zf_589 : zFn ZS := fun R d as S => match as with | [.inl x1, .inr (.inl x2)] => zb_readInt_p31 R d x1 x2 S | _ => none
def zf_590 : zFn ZS := fun R d as S => match as with | [.inl x1] => zb_readString_p31 R d x1 S | _ => none
def zf_591 : zFn ZS := fun R d as S => match as with | [.inl y0] => zb_readEscape_p53 R d y0 S | _ => none
def zf_592 : zFn ZS := fun R d as S => match as with | [.inl x2, .inl x3, .inl y0] => zb_readEscape_p97 R d x2 x3 y0 S | _ => none
def zf_593 : zFn ZS := fun R d as S => match as with | [.inl x1, .inl x2, .inl x3, .inl x4] => zb_decs_p57 R d x1 x2 x3 x4 S | _ => none
def zf_594 : zFn ZS := fun R d as S => match as with | [.inl x1, .inl x2, .inl x3, .inl y0] => zb_local_p48 R d x1 x2 x3 y0 S | _ => none
def zf_595 : zFn ZS := fun R d as S => match as with | [.inl x1, .inl x6] => zb_binds_p73 R d x1 x6 S | _ => none
def zf_596 : zFn ZS := fun R d as S => match as with | [.inl x1, .inl x2, .inl x3, .inl x4, .inl x5] => zb_pattern_p28 R d x1 x2 x3 x4 x5 S | _ => none
def zf_597 : zFn ZS := fun R d as S => match as with | [.inl x1, .inl x2] => zb_infixed_p239 R d x1 x2 S | _ => none
def zf_598 : zFn ZS := fun R d as S => match as with | [.inl x1, .inl x2] => zb_infixed_p30 R d x1 x2 S | _ => none
def zf_599 : zFn ZS := fun R d as S => match as with | [.inl x1, .inl x2, .inl x5] => zb_patternRow_p87 R d x1 x2 x5 S | _ => none
def zf_600 : zFn ZS := fun R d as S => match as with | [.inl x1, .inl x2, .inl x5, .inl x6] => zb_patternRow_p73 R d x1 x2 x5 x6 S | _ => none
def zf_601 : zFn ZS := fun R d as S => match as with | [.inl x1, .inl x3, .inl x4] => zb_patternField_p75 R d x1 x3 x4 S | _ => none
def zf_602 : zFn ZS := fun R d as S => match as with | [.inl x1, .inl x2] => zb_tupleType_p131 R d x1 x2 S | _ => none
def zf_603 : zFn ZS := fun R d as S => match as with | [.inl x1, .inl x2, .inl x3, .inl x4] => zb_atomicType_p117 R d x1 x2 x3 x4 S | _ => none
def zf_604 : zFn ZS := fun R d as S => match as with | [.inl x1, .inl x2, .inl x7] => zb_typeRow_p80 R d x1 x2 x7 S | _ => none
def zf_605 : zFn ZS := fun R d as S => match as with | [.inl x1, .inl x2, .inl x3, .inl x4, .inl x5, .inl x6, .inl x7] => zb_patternHeld_p40 R d x1 x2 x3 x4 x5 x6 x7 S | _ => none
def zf_606 : zFn ZS := fun R d as S => match as with | [.inl x1, .inl x2, .inl x7] => zb_expressionRow_p84 R d x1 x2 x7 S | _ => none
def zf_607 : zFn ZS := fun R d as S => match as with | [.inl x1, .inl y0] => zb_orelse_p36 R d x1 y0 S | _ => none
def zf_608 : zFn ZS := fun R d as S => match as with | [.inl x1, .inl y0] => zb_andalso_p35 R d x1 y0 S | _ => none
def zf_609 : zFn ZS := fun R d as S => match as with | [.inl x1, .inl x5] => zb_functions_p66 R d x1 x5 S | _ => none
def zf_610 : zFn ZS := fun R d as S => match as with | [.inl x1, .inl y0] => zb_clause_p67 R d x1 y0 S | _ => none
def zf_611 : zFn ZS := fun R d as S => match as with | [.inl x1, .inl x7] => zb_datas_p73 R d x1 x7 S | _ => none
def zf_612 : zFn ZS := fun R d as S => match as with | [.inl x1, .inl x2, .inl x5, .inl y0] => zb_constructors_p40 R d x1 x2 x5 y0 S | _ => none
def zf_613 : zFn ZS := fun R d as S => match as with | [.inl x1, .inl x3, .inl x4, .inl x6, .inl y0] => zb_exception_p68 R d x1 x3 x4 x6 y0 S | _ => none
def zf_614 : zFn ZS := fun R d as S => match as with | [.inl x1, .inl x2, .inl x3] => zb_infixes_p63 R d x1 x2 x3 S | _ => none
def zf_615 : zFn ZS := fun R d as S => match as with | [.inl x2, .inl x3, .inl x4, .inl x5, .inl x6, .inl x10] => zb_judgedVal_p115 R d x2 x3 x4 x5 x6 x10 S | _ => none
def zf_616 : zFn ZS := fun R d as S => match as with | [.inl x2, .inl x3, .inl x4, .inl x5] => zb_enterVariables_p37 R d x2 x3 x4 x5 S | _ => none
def zf_617 : zFn ZS := fun R d as S => match as with | [.inl x2, .inl x3] => zb_look_p48 R d x2 x3 S | _ => none
def zf_618 : zFn ZS := fun R d as S => match as with | [.inl x1, .inl x2, .inl x3] => zb_found_p31 R d x1 x2 x3 S | _ => none
def zf_619 : zFn ZS := fun R d as S => match as with | [.inl x1, .inl x2, .inl x3, .inl x4] => zb_patternName_p81 R d x1 x2 x3 x4 S | _ => none
def zf_620 : zFn ZS := fun R d as S => match as with | [.inl x1] => zb_patternName_p68 R d x1 S | _ => none
def zf_621 : zFn ZS := fun R d as S => match as with | [.inl x3, .inl y0, .inl y1, .inl y2, .inl y3, .inl y4, .inl y6] => zb_readSign_p109 R d x3 y0 y1 y2 y3 y4 y6 S | _ => none
def zf_622 : zFn ZS := fun R d as S => match as with | [.inl x1, .inl x2, .inl x3, .inl y0] => zb_readSign_p153 R d x1 x2 x3 y0 S | _ => none
def zf_623 : zFn ZS := fun R d as S => match as with | [.inl x1, .inl x2] => zb_copied_p62 R d x1 x2 S | _ => none
def zf_624 : zFn ZS := fun R d as S => match as with | [.inl x1, .inl x3, .inl y0] => zb_copied_p51 R d x1 x3 y0 S | _ => none
def zf_625 : zFn ZS := fun R d as S => match as with | [.inl x1, .inl x3] => zb_joined_p73 R d x1 x3 S | _ => none
def zf_626 : zFn ZS := fun R d as S => match as with | [.inl x1, .inl x2] => zb_merge_p69 R d x1 x2 S | _ => none
def zf_627 : zFn ZS := fun R d as S => match as with | [.inl x1, .inl x2, .inl x3, .inl x4, .inl x5] => zb_mergeRows_p45 R d x1 x2 x3 x4 x5 S | _ => none
def zf_628 : zFn ZS := fun R d as S => match as with | [.inl x1, .inl x2, .inl x3, .inl y0] => zb_allFields_p28 R d x1 x2 x3 y0 S | _ => none
def zf_629 : zFn ZS := fun R d as S => match as with | [.inl x2] => zb_isEndless_p67 R d x2 S | _ => none
def zf_630 : zFn ZS := fun R d as S => match as with | [.inl x2] => zb_admit_p152 R d x2 S | _ => none
def zf_631 : zFn ZS := fun R d as S => match as with | [.inl x1, .inl y0, .inl y1, .inl y2, .inl y3] => zb_patternParts_p120 R d x1 y0 y1 y2 y3 S | _ => none
def zf_632 : zFn ZS := fun R d as S => match as with | [.inl x1, .inl x2, .inl y0, .inl y1] => zb_toldVariable_p24 R d x1 x2 y0 y1 S | _ => none
def zf_633 : zFn ZS := fun R d as S => match as with | [.inl x2, .inl x4] => zb_toldName_p86 R d x2 x4 S | _ => none
def zf_634 : zFn ZS := fun R d as S => match as with | [.inl x1, .inl x2, .inl x3, .inl x4, .inl x5, .inl x6, .inl y0, .inl y1] => zb_toldOne_p40 R d x1 x2 x3 x4 x5 x6 y0 y1 S | _ => none
def zf_635 : zFn ZS := fun R d as S => match as with | [.inl x1, .inl x4, .inl x5] => zb_patternAs_p114 R d x1 x4 x5 S | _ => none
def zf_636 : zFn ZS := fun R d as S => match as with | [.inl x1, .inl x4, .inl x5] => zb_judgedApplication_p40 R d x1 x4 x5 S | _ => none
def zf_637 : zFn ZS := fun R d as S => match as with | [.inl x4, .inl x5, .inl x6, .inr (.inl x7), .inl x9, .inl x10, .inl x11, .inl x12, .inl x13, .inl x14] => zb_rules_p115 R d x4 x5 x6 x7 x9 x10 x11 x12 x13 x14 S | _ => none
def zf_638 : zFn ZS := fun R d as S => match as with | [.inl x3, .inl y0] => zb_does_p142 R d x3 y0 S | _ => none
def zf_639 : zFn ZS := fun R d as S => match as with | [.inl x4, .inl y0] => zb_does_p189 R d x4 y0 S | _ => none
def zf_640 : zFn ZS := fun R d as S => match as with | [.inl x2, .inl x3, .inl x4, .inl x5] => zb_through_p60 R d x2 x3 x4 x5 S | _ => none
def zf_641 : zFn ZS := fun R d as S => match as with | [.inl x2, .inl x3, .inl x4, .inl x6, .inl x7] => zb_sizeOf_p138 R d x2 x3 x4 x6 x7 S | _ => none
def zf_642 : zFn ZS := fun R d as S => match as with | [.inl x2, .inl x3] => zb_markRim_p25 R d x2 x3 S | _ => none
def zf_643 : zFn ZS := fun R d as S => match as with | [.inl x2, .inl x4, .inl x6] => zb_spreadRim_p89 R d x2 x4 x6 S | _ => none
def zf_644 : zFn ZS := fun R d as S => match as with | [.inl x3, .inl x4] => zb_generalise_p94 R d x3 x4 S | _ => none
def zf_645 : zFn ZS := fun R d as S => match as with | [.inl x1, .inl x2, .inl x3, .inl x4, .inl x5, .inl x6, .inl x7, .inl x8] => zb_judgedRec_p209 R d x1 x2 x3 x4 x5 x6 x7 x8 S | _ => none
def zf_646 : zFn ZS := fun R d as S => match as with | [.inl x1, .inl x2, .inl x3, .inl x4, .inl x5, .inl x6, .inl x7, .inl x8] => zb_judgedRec_p63 R d x1 x2 x3 x4 x5 x6 x7 x8 S | _ => none
def zf_647 : zFn ZS := fun R d as S => match as with | [.inl x1, .inl x2, .inl x3, .inl x4, .inl x5, .inl x6, .inl x7, .inl x8] => zb_judgedFun_p133 R d x1 x2 x3 x4 x5 x6 x7 x8 S | _ => none
def zf_648 : zFn ZS := fun R d as S => match as with | [.inl x1, .inl x2, .inl x3, .inl x4, .inl x5, .inl x6, .inl x7, .inl x8, .inl x9, .inl x10, .inl x11, .inr (.inl x12), .inl x14] => zb_judgedFunction_p128 R d x1 x2 x3 x4 x5 x6 x7 x8 x9 x10 x11 x12 x14 S | _ => none
def zf_649 : zFn ZS := fun R d as S => match as with | [.inl x1, .inl x2, .inl x5, .inl x6, .inl x8, .inl x9, .inl x10, .inl x11, .inl x12] => zb_judgedClause_p135 R d x1 x2 x5 x6 x8 x9 x10 x11 x12 S | _ => none
def zf_650 : zFn ZS := fun R d as S => match as with | [.inl x1] => zb_lengthOf_fNext R d x1 S | _ => none
def zf_651 : zFn ZS := fun R d as S => match as with | [.inl x2, .inl x3, .inl x4, .inl x5, .inl x6] => zb_listed_p22 R d x2 x3 x4 x5 x6 S | _ => none
def zf_652 : zFn ZS := fun R d as S => match as with | [.inl x1, .inl x2, .inl x3, .inl x4, .inl x6] => zb_judgedData_p212 R d x1 x2 x3 x4 x6 S | _ => none
def zf_653 : zFn ZS := fun R d as S => match as with | [.inl x1, .inl x2, .inl x3, .inl x4, .inl x5, .inl x6, .inl x7] => zb_judgedData_p53 R d x1 x2 x3 x4 x5 x6 x7 S | _ => none
def zf_654 : zFn ZS := fun R d as S => match as with | [.inl x2, .inl x3, .inl x4, .inl x5, .inl x6] => zb_judgedCons_p87 R d x2 x3 x4 x5 x6 S | _ => none
def zf_655 : zFn ZS := fun R d as S => match as with | [.inl x3, .inl x4] => zb_admits_p78 R d x3 x4 S | _ => none
def zf_656 : zFn ZS := fun R d as S => match as with | [.inl x1, .inl x3] => zb_judgedException_p104 R d x1 x3 S | _ => none
def zf_657 : zFn ZS := fun R d as S => match as with | [.inl x2, .inl x3, .inl x5, .inl x6, .inl x7] => zb_judgedLocal_p79 R d x2 x3 x5 x6 x7 S | _ => none
def zf_658 : zFn ZS := fun R d as S => match as with | [.inl x1, .inl x2] => zb_finish_p55 R d x1 x2 S | _ => none
def zf_659 : zFn ZS := fun R d as S => match as with | [.inl x2] => zb_finish_p120 R d x2 S | _ => none
def zf_660 : zFn ZS := fun R d as S => match as with | [.inl x3, .inl x4] => zb_hasUnknown_p74 R d x3 x4 S | _ => none
def zf_661 : zFn ZS := fun R d as S => match as with | [.inl x1, .inl x2, .inl x3, .inl x4, .inl x5] => zb_noteAll_p224 R d x1 x2 x3 x4 x5 S | _ => none
def zf_662 : zFn ZS := fun R d as S => match as with | [.inl x1] => zb_lengthOf_next R d x1 S | _ => none
def zf_663 : zFn ZS := fun R d as S => match as with | [.inl x1, .inl x2, .inl x3, .inl x4, .inl x5, .inl x6] => zb_noteAll_p96 R d x1 x2 x3 x4 x5 x6 S | _ => none
def zf_664 : zFn ZS := fun R d as S => match as with | [.inl x1, .inl x2, .inl x3, .inl x4, .inl x5, .inl x6] => zb_noteAll_p189 R d x1 x2 x3 x4 x5 x6 S | _ => none
def zf_665 : zFn ZS := fun R d as S => match as with | [.inl x2, .inl x3, .inl x4, .inl x5, .inl x6] => zb_isUseful_p61 R d x2 x3 x4 x5 x6 S | _ => none
def zf_666 : zFn ZS := fun R d as S => match as with | [.inl x1, .inl x3, .inl x4, .inl x5, .inl x6] => zb_usefulHere_p110 R d x1 x3 x4 x5 x6 S | _ => none
def zf_667 : zFn ZS := fun R d as S => match as with | [.inl x1, .inl x2, .inl x3] => zb_takesAll_p14 R d x1 x2 x3 S | _ => none
def zf_668 : zFn ZS := fun R d as S => match as with | [.inl x2] => zb_bare0_p26 R d x2 S | _ => none
def zf_669 : zFn ZS := fun R d as S => match as with | [.inl x1, .inl x2, .inl x3] => zb_rowStep_p64 R d x1 x2 x3 S | _ => none
def zf_670 : zFn ZS := fun R d as S => match as with | [.inl x2, .inl x3] => zb_labelsOf_p96 R d x2 x3 S | _ => none
def zf_671 : zFn ZS := fun R d as S => match as with | [.inl x1, .inl x2, .inl x3, .inl x4, .inl x5, .inl x6, .inl x7, .inl x8] => zb_narrowed_p90 R d x1 x2 x3 x4 x5 x6 x7 x8 S | _ => none
def zf_672 : zFn ZS := fun R d as S => match as with | [.inl x1, .inl x2, .inl x3, .inl x4] => zb_areAllTold_p29 R d x1 x2 x3 x4 S | _ => none
def zf_673 : zFn ZS := fun R d as S => match as with | [.inl x1, .inl x2, .inl x3, .inl x4, .inl x5, .inl x7, .inl y0, .inl y1] => zb_usefulByEach_p98 R d x1 x2 x3 x4 x5 x7 y0 y1 S | _ => none
def zf_674 : zFn ZS := fun R d as S => match as with | [.inl x1, .inl x2, .inl x3] => zb_note0_p79 R d x1 x2 x3 S | _ => none
def zf_675 : zFn ZS := fun R d as S => match as with | [.inl x1, .inl x2, .inl x3] => zb_note0_p45 R d x1 x2 x3 S | _ => none
def zf_676 : zFn ZS := fun R d as S => match as with | [] => zb_runAll_p46 R d  S | _ => none
def zf_677 : zFn ZS := fun R d as S => match as with | [.inl x2, .inl x3, .inl y0, .inl y1] => zb_goesOn_2_p224 R d x2 x3 y0 y1 S | _ => none
def zf_678 : zFn ZS := fun R d as S => match as with | [.inl x5, .inr (.inl x6), .inr (.inl x8), .inr (.inl x10)] => zb_areEqual_p101 R d x5 x6 x8 x10 S | _ => none
def zf_679 : zFn ZS := fun R d as S => match as with | [.inl x6, .inr (.inl x8), .inl x10] => zb_joinedStrings_p101 R d x6 x8 x10 S | _ => none
def zf_680 : zFn ZS := fun R d as S => match as with | [.inr (.inl x4), .inr (.inl x6)] => zb_imploded_p70 R d x4 x6 S | _ => none
def zf_681 : zFn ZS := fun R d as S => match as with | [.inr (.inl x1), .inr (.inl x3), .inl x5, .inr (.inl x6)] => zb_digitsOf_p29 R d x1 x3 x5 x6 S | _ => none
def zf_682 : zFn ZS := fun R d as S => match as with | [.inr (.inl x1), .inr (.inl x3), .inl x5, .inl x7] => zb_call_p144 R d x1 x3 x5 x7 S | _ => none
def zf_683 : zFn ZS := fun R d as S => match as with | [.inl x2, .inl x3, .inl x4, .inl x5] => zb_body_p68 R d x2 x3 x4 x5 S | _ => none
def zf_684 : zFn ZS := fun R d as S => match as with | [.inl x2] => zb_rec_p68 R d x2 S | _ => none
def zf_685 : zFn ZS := fun R d as S => match as with | [.inl x2] => zb_fun_p59 R d x2 S | _ => none
def zf_686 : zFn ZS := fun R d as S => match as with | [.inl x3, .inl x4, .inl x5, .inl x6] => zb_rowOf_p58 R d x3 x4 x5 x6 S | _ => none
def zf_687 : zFn ZS := fun R d as S => match as with | [.inl x1, .inl x2, .inl x3, .inl x4] => zb_shapeOf_p51 R d x1 x2 x3 x4 S | _ => none
def zf_688 : zFn ZS := fun R d as S => match as with | [.inl x1, .inl x2, .inl x3, .inl x4] => zb_likeShape_p29 R d x1 x2 x3 x4 S | _ => none
def zf_689 : zFn ZS := fun R d as S => match as with | [.inl x3, .inl x4] => zb_keepBound_p150 R d x3 x4 S | _ => none
def zf_690 : zFn ZS := fun R d as S => match as with | [.inl x1, .inl x2, .inl x3, .inl y0, .inl y1] => zb_keepBound_p68 R d x1 x2 x3 y0 y1 S | _ => none
def zf_691 : zFn ZS := fun R d as S => match as with | [.inl x2, .inl x3] => zb_keepInfix_p118 R d x2 x3 S | _ => none
def zf_692 : zFn ZS := fun R d as S => match as with | [.inl x1, .inl x2, .inl x3, .inl x4] => zb_keepInfix_p22 R d x1 x2 x3 x4 S | _ => none
def zf_693 : zFn ZS := fun R d as S => match as with | [.inl x2, .inl x3] => zb_keepTypes_p46 R d x2 x3 S | _ => none
def zf_694 : zFn ZS := fun R d as S => match as with | [.inl x3, .inl x4, .inl x5, .inl x6] => zb_endOf_p58 R d x3 x4 x5 x6 S | _ => none
def zf_695 : zFn ZS := fun R d as S => match as with | [.inl x1, .inl x2] => zb_noteLines_p52 R d x1 x2 S | _ => none
def zf_696 : zFn ZS := fun R d as S => match as with | [.inr (.inl x3), .inr (.inl x5)] => zb_sayInt_p28 R d x3 x5 S | _ => none
def zf_697 : zFn ZS := fun R d as S => match as with | [.inr (.inl x1), .inl x3, .inl x4, .inl x5, .inl x6] => zb_sayRow_p84 R d x1 x3 x4 x5 x6 S | _ => none
def zf_698 : zFn ZS := fun R d as S => match as with | [.inr (.inl x1), .inl x3, .inl x4] => zb_sayBehind_p38 R d x1 x3 x4 S | _ => none
def zf_699 : zFn ZS := fun R d as S => match as with | [.inl x3, .inr (.inl x6)] => zb_sayMade_p91 R d x3 x6 S | _ => none
def zf_700 : zFn ZS := fun R d as S => match as with | [.inl x2, .inl x3, .inl x4, .inl y0] => zb_sayType_p82 R d x2 x3 x4 y0 S | _ => none
def zf_701 : zFn ZS := fun R d as S => match as with | [.inl x1, .inl x2] => zb_sayVariable_p26 R d x1 x2 S | _ => none
def zf_702 : zFn ZS := fun R d as S => match as with | [.inl x1, .inl x2, .inl x3, .inl x4] => zb_isTuple_p41 R d x1 x2 x3 x4 S | _ => none
def zf_703 : zFn ZS := fun R d as S => match as with | [.inl x1, .inl x2, .inl x3, .inl x5, .inl x6] => zb_sayRowType_p47 R d x1 x2 x3 x5 x6 S | _ => none
def zf_704 : zFn ZS := fun R d as S => match as with | [.inl x1, .inl x2, .inl x3] => zb_sayMadeType_p55 R d x1 x2 x3 S | _ => none
def zf_705 : zFn ZS := fun R d as S => match as with | [.inl x1, .inl x2, .inl x3] => zb_sayVars_p39 R d x1 x2 x3 S | _ => none
def zf_706 : zFn ZS := fun R d as S => match as with | [.inl x2, .inl x3] => zb_sign0_p260 R d x2 x3 S | _ => none
def zf_707 : zFn ZS := fun R d as S => match as with | [.inl x1, .inl x2, .inl x3] => zb_gaps_p145 R d x1 x2 x3 S | _ => none
def zf_708 : zFn ZS := fun R d as S => match as with | [.inl x2, .inl x3, .inl x4, .inl x5] => zb_nameAt_text_p45 R d x2 x3 x4 x5 S | _ => none
def zf_709 : zFn ZS := fun R d as S => match as with | [.inl x1, .inr (.inl x2), .inr (.inl y0), .inr (.inl y1)] => zb_readInt_p96 R d x1 x2 y0 y1 S | _ => none
def zf_710 : zFn ZS := fun R d as S => match as with | [.inl x1, .inr (.inl y0)] => zb_readInt_p68 R d x1 y0 S | _ => none
def zf_711 : zFn ZS := fun R d as S => match as with | [.inl x1, .inl x2] => zb_readString_p159 R d x1 x2 S | _ => none
def zf_712 : zFn ZS := fun R d as S => match as with | [.inl x2, .inl x3, .inl x4, .inl y0, .inl y1] => zb_readEscape_p131 R d x2 x3 x4 y0 y1 S | _ => none
def zf_713 : zFn ZS := fun R d as S => match as with | [.inl x1, .inl x2, .inl x3, .inl x4] => zb_infixed_p54 R d x1 x2 x3 x4 S | _ => none
def zf_714 : zFn ZS := fun R d as S => match as with | [.inl x1, .inl x3, .inl x5] => zb_patternField_p137 R d x1 x3 x5 S | _ => none
def zf_715 : zFn ZS := fun R d as S => match as with | [.inl x1, .inl x2, .inl x3, .inl x4, .inl x6, .inl x8] => zb_patternHeld_p73 R d x1 x2 x3 x4 x6 x8 S | _ => none
def zf_716 : zFn ZS := fun R d as S => match as with | [.inl x1, .inl x4, .inl x5, .inl x6] => zb_clause_p191 R d x1 x4 x5 x6 S | _ => none
def zf_717 : zFn ZS := fun R d as S => match as with | [.inl x1, .inl y0] => zb_clause_p89 R d x1 y0 S | _ => none
def zf_718 : zFn ZS := fun R d as S => match as with | [.inl x1, .inl x2, .inl y0, .inl y1, .inl y2, .inl y3] => zb_constructors_p66 R d x1 x2 y0 y1 y2 y3 S | _ => none
def zf_719 : zFn ZS := fun R d as S => match as with | [.inl x1, .inl x2, .inl x3] => zb_infixes_p76 R d x1 x2 x3 S | _ => none
def zf_720 : zFn ZS := fun R d as S => match as with | [.inl x1, .inl x2, .inl x3] => zb_found_p85 R d x1 x2 x3 S | _ => none
def zf_721 : zFn ZS := fun R d as S => match as with | [.inl x1, .inl x2, .inl x3, .inl x4, .inl x5, .inl x6, .inl x7] => zb_readSign_p164 R d x1 x2 x3 x4 x5 x6 x7 S | _ => none
def zf_722 : zFn ZS := fun R d as S => match as with | [.inl x1, .inl x3, .inl x4, .inl x5] => zb_copied_p81 R d x1 x3 x4 x5 S | _ => none
def zf_723 : zFn ZS := fun R d as S => match as with | [.inl x1, .inl x2, .inl y0] => zb_merge_p83 R d x1 x2 y0 S | _ => none
def zf_724 : zFn ZS := fun R d as S => match as with | [.inl x1, .inl x2, .inl x3, .inl x4, .inl x5] => zb_mergeRows_p99 R d x1 x2 x3 x4 x5 S | _ => none
def zf_725 : zFn ZS := fun R d as S => match as with | [.inl x3, .inl x4, .inl x5, .inl x6, .inl x7] => zb_allFields_p48 R d x3 x4 x5 x6 x7 S | _ => none
def zf_726 : zFn ZS := fun R d as S => match as with | [.inl x2, .inl x4] => zb_isEndless_p191 R d x2 x4 S | _ => none
def zf_727 : zFn ZS := fun R d as S => match as with | [.inl x1] => zb_toldVariable_p63 R d x1 S | _ => none
def zf_728 : zFn ZS := fun R d as S => match as with | [.inl x1, .inl x2, .inl x3, .inl x5, .inl x6, .inl x7] => zb_toldOne_p66 R d x1 x2 x3 x5 x6 x7 S | _ => none
def zf_729 : zFn ZS := fun R d as S => match as with | [.inl x1, .inl x4, .inl x5, .inl x6, .inl x7] => zb_judgedApplication_p51 R d x1 x4 x5 x6 x7 S | _ => none
def zf_730 : zFn ZS := fun R d as S => match as with | [.inl x4, .inl x5, .inl x6, .inr (.inl x7), .inl x9, .inl x10, .inl x13, .inl x14] => zb_rules_p178 R d x4 x5 x6 x7 x9 x10 x13 x14 S | _ => none
def zf_731 : zFn ZS := fun R d as S => match as with | [.inl x2, .inl x3, .inl x5] => zb_through_p102 R d x2 x3 x5 S | _ => none
def zf_732 : zFn ZS := fun R d as S => match as with | [.inl x2, .inl x3, .inl x5] => zb_through_p135 R d x2 x3 x5 S | _ => none
def zf_733 : zFn ZS := fun R d as S => match as with | [.inl x3] => zb_markRim_p70 R d x3 S | _ => none
def zf_734 : zFn ZS := fun R d as S => match as with | [.inl x3, .inl x5] => zb_generalise_p128 R d x3 x5 S | _ => none
def zf_735 : zFn ZS := fun R d as S => match as with | [.inl x2, .inl x3, .inl x4, .inl x5, .inl x6, .inl x8] => zb_judgedRec_p266 R d x2 x3 x4 x5 x6 x8 S | _ => none
def zf_736 : zFn ZS := fun R d as S => match as with | [.inl x2, .inl x3, .inl x4, .inl x5, .inl x6, .inl x8, .inl x9] => zb_judgedFun_p194 R d x2 x3 x4 x5 x6 x8 x9 S | _ => none
def zf_737 : zFn ZS := fun R d as S => match as with | [.inl x1, .inl x2, .inl x3, .inl x10, .inl x14, .inl x15] => zb_judgedFunction_p274 R d x1 x2 x3 x10 x14 x15 S | _ => none
def zf_738 : zFn ZS := fun R d as S => match as with | [.inl x1, .inl x2, .inl x3, .inl x4, .inl x5, .inl x6, .inl x7, .inl x8, .inl x9, .inl x10, .inl x11, .inr (.inl x12), .inl x14, .inl x15, .inl x16] => zb_judgedFunction_p161 R d x1 x2 x3 x4 x5 x6 x7 x8 x9 x10 x11 x12 x14 x15 x16 S | _ => none
def zf_739 : zFn ZS := fun R d as S => match as with | [.inl x2, .inl x5, .inl x8, .inl y0] => zb_judgedClause_p249 R d x2 x5 x8 y0 S | _ => none
def zf_740 : zFn ZS := fun R d as S => match as with | [.inl x1, .inl x2, .inl x5, .inl x6, .inl x8, .inl x9, .inl x10, .inl x11, .inl x12] => zb_judgedClause_p196 R d x1 x2 x5 x6 x8 x9 x10 x11 x12 S | _ => none
def zf_741 : zFn ZS := fun R d as S => match as with | [.inl x2, .inl x3] => zb_lengthOf_fNext_p4 R d x2 x3 S | _ => none
def zf_742 : zFn ZS := fun R d as S => match as with | [.inl x2, .inl x3, .inl x4, .inl x5, .inl y0, .inl y1, .inl y2, .inl y3, .inl y4] => zb_listed_p97 R d x2 x3 x4 x5 y0 y1 y2 y3 y4 S | _ => none
def zf_743 : zFn ZS := fun R d as S => match as with | [.inl x1, .inl x2, .inl x3, .inl x4, .inl x6, .inl x7] => zb_judgedData_p277 R d x1 x2 x3 x4 x6 x7 S | _ => none
def zf_744 : zFn ZS := fun R d as S => match as with | [.inl x2, .inl x3, .inl x4, .inl x5, .inl y0] => zb_judgedCons_p180 R d x2 x3 x4 x5 y0 S | _ => none
def zf_745 : zFn ZS := fun R d as S => match as with | [.inl x3, .inl x4] => zb_admits_p100 R d x3 x4 S | _ => none
def zf_746 : zFn ZS := fun R d as S => match as with | [.inl x1, .inl x3, .inl x4, .inl y0, .inl y1, .inl y2] => zb_judgedException_p144 R d x1 x3 x4 y0 y1 y2 S | _ => none
def zf_747 : zFn ZS := fun R d as S => match as with | [.inl x1, .inl x2, .inl x3] => zb_linked_vBefore R d x1 x2 x3 S | _ => none
def zf_748 : zFn ZS := fun R d as S => match as with | [.inl x1, .inl x2, .inl x3] => zb_linked_tBefore R d x1 x2 x3 S | _ => none
def zf_749 : zFn ZS := fun R d as S => match as with | [.inl x2] => zb_finish_p92 R d x2 S | _ => none
def zf_750 : zFn ZS := fun R d as S => match as with | [.inl x2] => zb_finish_p183 R d x2 S | _ => none
def zf_751 : zFn ZS := fun R d as S => match as with | [.inl x3, .inl x5] => zb_hasUnknown_p108 R d x3 x5 S | _ => none
def zf_752 : zFn ZS := fun R d as S => match as with | [.inl x1, .inl x2, .inl x3, .inl x4, .inl x5, .inl x6, .inl x7] => zb_noteAll_p305 R d x1 x2 x3 x4 x5 x6 x7 S | _ => none
def zf_753 : zFn ZS := fun R d as S => match as with | [.inl x1, .inl x2, .inl x3, .inl x4, .inl x5, .inl x6] => zb_noteAll_p241 R d x1 x2 x3 x4 x5 x6 S | _ => none
def zf_754 : zFn ZS := fun R d as S => match as with | [.inl x2, .inl x3] => zb_lengthOf_next_p4 R d x2 x3 S | _ => none
def zf_755 : zFn ZS := fun R d as S => match as with | [.inl x1, .inl x2, .inl x3, .inl x4, .inl x5, .inl x6, .inl x7, .inl x8] => zb_noteAll_p114 R d x1 x2 x3 x4 x5 x6 x7 x8 S | _ => none
def zf_756 : zFn ZS := fun R d as S => match as with | [.inl x1] => zb_usefulHere_p172 R d x1 S | _ => none
def zf_757 : zFn ZS := fun R d as S => match as with | [.inl x1, .inl x2, .inl x3, .inl x4, .inl x5, .inl x6] => zb_rowStep_p101 R d x1 x2 x3 x4 x5 x6 S | _ => none
def zf_758 : zFn ZS := fun R d as S => match as with | [.inl x1, .inl x2, .inl x3, .inl x4, .inl x5, .inl x6, .inl x7, .inl x9, .inl x10] => zb_narrowed_p130 R d x1 x2 x3 x4 x5 x6 x7 x9 x10 S | _ => none
def zf_759 : zFn ZS := fun R d as S => match as with | [] => zb_runAll_p73 R d  S | _ => none
def zf_760 : zFn ZS := fun R d as S => match as with | [.inl x5, .inr (.inl x6), .inr (.inl x8), .inr (.inl x10)] => zb_areEqual_p149 R d x5 x6 x8 x10 S | _ => none
def zf_761 : zFn ZS := fun R d as S => match as with | [.inl x5] => zb_areEqual_p226 R d x5 S | _ => none
def zf_762 : zFn ZS := fun R d as S => match as with | [.inr (.inl x3), .inr (.inl x6), .inr (.inl x8)] => zb_digitsOf_p87 R d x3 x6 x8 S | _ => none
def zf_763 : zFn ZS := fun R d as S => match as with | [.inl x2, .inl x4] => zb_body_p113 R d x2 x4 S | _ => none
def zf_764 : zFn ZS := fun R d as S => match as with | [.inl x3, .inl x4, .inl x5, .inl x6, .inl x7] => zb_rowOf_p112 R d x3 x4 x5 x6 x7 S | _ => none
def zf_765 : zFn ZS := fun R d as S => match as with | [.inl x3, .inl x4, .inl x5, .inl x6, .inl x7] => zb_rowOf_p75 R d x3 x4 x5 x6 x7 S | _ => none
def zf_766 : zFn ZS := fun R d as S => match as with | [.inl x1, .inl x2, .inl x3, .inl x4] => zb_shapeOf_p104 R d x1 x2 x3 x4 S | _ => none
def zf_767 : zFn ZS := fun R d as S => match as with | [.inl x2, .inl x4] => zb_keepBound_p273 R d x2 x4 S | _ => none
def zf_768 : zFn ZS := fun R d as S => match as with | [.inl x1, .inl x2, .inl x3] => zb_keepBound_p96 R d x1 x2 x3 S | _ => none
def zf_769 : zFn ZS := fun R d as S => match as with | [.inl x1, .inl x2, .inl x3] => zb_keepInfix_p69 R d x1 x2 x3 S | _ => none
def zf_770 : zFn ZS := fun R d as S => match as with | [.inl x2, .inl x3, .inl x4, .inl x5, .inl x6, .inl x7] => zb_keepTypes_p98 R d x2 x3 x4 x5 x6 x7 S | _ => none
def zf_771 : zFn ZS := fun R d as S => match as with | [.inl x1, .inl x2, .inl y0, .inl y1] => zb_noteLines_p116 R d x1 x2 y0 y1 S | _ => none
def zf_772 : zFn ZS := fun R d as S => match as with | [.inr (.inl x3), .inr (.inl x5)] => zb_sayInt_p50 R d x3 x5 S | _ => none
def zf_773 : zFn ZS := fun R d as S => match as with | [.inr (.inl x1), .inl x3, .inl x4, .inl x5, .inl x6] => zb_sayRow_p102 R d x1 x3 x4 x5 x6 S | _ => none
def zf_774 : zFn ZS := fun R d as S => match as with | [.inl x2, .inl x3, .inl x4, .inl x5] => zb_sayType_p93 R d x2 x3 x4 x5 S | _ => none
def zf_775 : zFn ZS := fun R d as S => match as with | [.inl x3, .inl x4, .inl x5, .inl y0] => zb_sayType_p108 R d x3 x4 x5 y0 S | _ => none
def zf_776 : zFn ZS := fun R d as S => match as with | [.inl x1, .inl x2] => zb_sayVariable_p54 R d x1 x2 S | _ => none
def zf_777 : zFn ZS := fun R d as S => match as with | [.inl x1, .inl x2, .inl x3, .inl x5, .inl y0] => zb_sayRowType_p128 R d x1 x2 x3 x5 y0 S | _ => none
def zf_778 : zFn ZS := fun R d as S => match as with | [.inl x1, .inl x2, .inl x3, .inl x5, .inl x6, .inl x7] => zb_sayRowType_p76 R d x1 x2 x3 x5 x6 x7 S | _ => none
def zf_779 : zFn ZS := fun R d as S => match as with | [.inl x1, .inl x2, .inl x3] => zb_sayMadeType_p71 R d x1 x2 x3 S | _ => none
def zf_780 : zFn ZS := fun R d as S => match as with | [.inl x1, .inl x2, .inl x3] => zb_sayVars_p55 R d x1 x2 x3 S | _ => none
def zf_781 : zFn ZS := fun R d as S => match as with | [.inl y0, .inl y1, .inl y2, .inl y3] => zb_sign0_p304 R d y0 y1 y2 y3 S | _ => none
def zf_782 : zFn ZS := fun R d as S => match as with | [.inl x1, .inl x2] => zb_gaps_p174 R d x1 x2 S | _ => none
def zf_783 : zFn ZS := fun R d as S => match as with | [.inl x2, .inl x3, .inl x5] => zb_nameAt_text_p193 R d x2 x3 x5 S | _ => none
def zf_784 : zFn ZS := fun R d as S => match as with | [.inl x2, .inl x3, .inl x4, .inl x5, .inl x6, .inl x7] => zb_nameAt_text_p72 R d x2 x3 x4 x5 x6 x7 S | _ => none
def zf_785 : zFn ZS := fun R d as S => match as with | [.inl x1, .inr (.inl y0)] => zb_readInt_p121 R d x1 y0 S | _ => none
def zf_786 : zFn ZS := fun R d as S => match as with | [.inl x1, .inl y0] => zb_readString_p180 R d x1 y0 S | _ => none
def zf_787 : zFn ZS := fun R d as S => match as with | [.inl x1, .inl x2, .inl x3, .inl x5] => zb_infixed_p105 R d x1 x2 x3 x5 S | _ => none
def zf_788 : zFn ZS := fun R d as S => match as with | [.inl x1, .inl x4, .inl x5, .inl x6, .inl y0] => zb_clause_p208 R d x1 x4 x5 x6 y0 S | _ => none
def zf_789 : zFn ZS := fun R d as S => match as with | [.inl x1, .inl x4, .inl x5, .inl x6, .inl x7] => zb_clause_p107 R d x1 x4 x5 x6 x7 S | _ => none
def zf_790 : zFn ZS := fun R d as S => match as with | [.inl x1, .inl x7] => zb_constructors_p92 R d x1 x7 S | _ => none
def zf_791 : zFn ZS := fun R d as S => match as with | [.inl x1, .inl x2, .inl x3, .inl x4, .inl x5, .inl x6, .inl x7, .inl x8] => zb_readSign_p200 R d x1 x2 x3 x4 x5 x6 x7 x8 S | _ => none
def zf_792 : zFn ZS := fun R d as S => match as with | [.inl x2, .inl x3, .inl x5, .inl y0] => zb_readSign_p256 R d x2 x3 x5 y0 S | _ => none
def zf_793 : zFn ZS := fun R d as S => match as with | [.inl x1, .inl x3, .inl x5, .inl x6] => zb_copied_p137 R d x1 x3 x5 x6 S | _ => none
def zf_794 : zFn ZS := fun R d as S => match as with | [.inl x3, .inl y0] => zb_merge_p94 R d x3 y0 S | _ => none
def zf_795 : zFn ZS := fun R d as S => match as with | [.inl x2, .inl x3, .inl x4, .inl y0, .inl y1] => zb_mergeRows_p213 R d x2 x3 x4 y0 y1 S | _ => none
def zf_796 : zFn ZS := fun R d as S => match as with | [.inl x3, .inl x4, .inl x5, .inl x6, .inl x7] => zb_allFields_p54 R d x3 x4 x5 x6 x7 S | _ => none
def zf_797 : zFn ZS := fun R d as S => match as with | [.inl x5] => zb_through_p210 R d x5 S | _ => none
def zf_798 : zFn ZS := fun R d as S => match as with | [.inl x3] => zb_markRim_p106 R d x3 S | _ => none
def zf_799 : zFn ZS := fun R d as S => match as with | [.inl x2, .inl x5, .inl x8, .inl x13] => zb_judgedClause_p293 R d x2 x5 x8 x13 S | _ => none
def zf_800 : zFn ZS := fun R d as S => match as with | [.inl x2, .inl x4, .inl x5, .inl x7] => zb_listed_p171 R d x2 x4 x5 x7 S | _ => none
def zf_801 : zFn ZS := fun R d as S => match as with | [.inl x1, .inl x2, .inl x3, .inl x4, .inl x6, .inl x7] => zb_judgedData_p306 R d x1 x2 x3 x4 x6 x7 S | _ => none
def zf_802 : zFn ZS := fun R d as S => match as with | [.inl x2, .inl x3, .inl x4, .inl x5, .inl x6, .inl x7, .inl x8, .inl x9] => zb_judgedCons_p228 R d x2 x3 x4 x5 x6 x7 x8 x9 S | _ => none
def zf_803 : zFn ZS := fun R d as S => match as with | [.inl x3, .inl x5] => zb_admits_p135 R d x3 x5 S | _ => none
def zf_804 : zFn ZS := fun R d as S => match as with | [.inl x1, .inl x4, .inl y0, .inl y1, .inl y2] => zb_judgedException_p195 R d x1 x4 y0 y1 y2 S | _ => none
def zf_805 : zFn ZS := fun R d as S => match as with | [.inl x1, .inl x2, .inl x3, .inl x4] => zb_linked_vBefore_p10 R d x1 x2 x3 x4 S | _ => none
def zf_806 : zFn ZS := fun R d as S => match as with | [.inl x1, .inl x2, .inl x3, .inl x4] => zb_linked_tBefore_p10 R d x1 x2 x3 x4 S | _ => none
def zf_807 : zFn ZS := fun R d as S => match as with | [.inl x1, .inl x2, .inl x3, .inl y0] => zb_noteAll_p372 R d x1 x2 x3 y0 S | _ => none
def zf_808 : zFn ZS := fun R d as S => match as with | [.inl x1, .inl x2, .inl x3, .inl x4, .inl x6] => zb_rowStep_p145 R d x1 x2 x3 x4 x6 S | _ => none
def zf_809 : zFn ZS := fun R d as S => match as with | [.inl x5] => zb_areEqual_p182 R d x5 S | _ => none
def zf_810 : zFn ZS := fun R d as S => match as with | [.inl x3, .inl x4] => zb_keepBound_p329 R d x3 x4 S | _ => none
def zf_811 : zFn ZS := fun R d as S => match as with | [.inr (.inl x1), .inl x3, .inl x4, .inl x5, .inl x6] => zb_sayRow_p124 R d x1 x3 x4 x5 x6 S | _ => none
def zf_812 : zFn ZS := fun R d as S => match as with | [.inl x3, .inl x4, .inl x5, .inl x6] => zb_sayType_p121 R d x3 x4 x5 x6 S | _ => none
def zf_813 : zFn ZS := fun R d as S => match as with | [.inl x2] => zb_sayVariable_p141 R d x2 S | _ => none
def zf_814 : zFn ZS := fun R d as S => match as with | [.inl x2, .inl x3, .inl x4] => zb_sayVariable_p70 R d x2 x3 x4 S | _ => none
def zf_815 : zFn ZS := fun R d as S => match as with | [.inl x1, .inl x4, .inl x5] => zb_sayRowType_p148 R d x1 x4 x5 S | _ => none
def zf_816 : zFn ZS := fun R d as S => match as with | [.inl x1, .inl x2, .inl x3, .inl x6] => zb_sayRowType_p101 R d x1 x2 x3 x6 S | _ => none
def zf_817 : zFn ZS := fun R d as S => match as with | [.inl x2, .inl x3, .inl x4, .inl x5, .inl x6] => zb_nameAt_text_p120 R d x2 x3 x4 x5 x6 S | _ => none
def zf_818 : zFn ZS := fun R d as S => match as with | [.inl x1, .inl x2, .inl x3, .inl y0] => zb_infixed_p146 R d x1 x2 x3 y0 S | _ => none
def zf_819 : zFn ZS := fun R d as S => match as with | [.inl x2] => zb_mergeRows_p223 R d x2 S | _ => none
def zf_820 : zFn ZS := fun R d as S => match as with | [.inl x3, .inl x4, .inl x5, .inl x6, .inl x7] => zb_allFields_p93 R d x3 x4 x5 x6 x7 S | _ => none
def zf_821 : zFn ZS := fun R d as S => match as with | [.inl x3, .inl x4] => zb_markRim_p147 R d x3 x4 S | _ => none
def zf_822 : zFn ZS := fun R d as S => match as with | [.inl x8] => zb_judgedData_p429 R d x8 S | _ => none
def zf_823 : zFn ZS := fun R d as S => match as with | [.inl x1, .inl x2, .inl x3, .inl x4, .inl x6, .inl x7, .inl x8] => zb_judgedData_p318 R d x1 x2 x3 x4 x6 x7 x8 S | _ => none
def zf_824 : zFn ZS := fun R d as S => match as with | [.inl x2, .inl x3, .inl x4, .inl x5, .inl x6, .inl x9, .inl x10, .inl y0, .inl y1, .inl y2] => zb_judgedCons_p355 R d x2 x3 x4 x5 x6 x9 x10 y0 y1 y2 S | _ => none
def zf_825 : zFn ZS := fun R d as S => match as with | [.inl x2, .inl x3, .inl x4, .inl x5, .inl x6, .inl x7, .inl x9, .inl x10] => zb_judgedCons_p277 R d x2 x3 x4 x5 x6 x7 x9 x10 S | _ => none
def zf_826 : zFn ZS := fun R d as S => match as with | [.inl x3, .inl x6, .inl x7, .inl x8] => zb_sayType_p189 R d x3 x6 x7 x8 S | _ => none
def zf_827 : zFn ZS := fun R d as S => match as with | [.inl x1, .inl x2, .inl x3, .inl x4] => zb_infixed_p158 R d x1 x2 x3 x4 S | _ => none
def zf_828 : zFn ZS := fun R d as S => match as with | [.inl x3, .inl x4, .inl x5, .inl x6, .inl x7] => zb_allFields_p155 R d x3 x4 x5 x6 x7 S | _ => none
def zf_829 : zFn ZS := fun R d as S => match as with | [.inl x3, .inl x4, .inl x5, .inl x6, .inl x7, .inl y0] => zb_allFields_p132 R d x3 x4 x5 x6 x7 y0 S | _ => none
def zf_830 : zFn ZS := fun R d as S => match as with | [.inl x2, .inl x3, .inl x4, .inl x5, .inl x10, .inl y0, .inl y1] => zb_judgedCons_p392 R d x2 x3 x4 x5 x10 y0 y1 S | _ => none
def zf_831 : zFn ZS := fun R d as S => match as with | [.inl x3, .inl x6, .inl x7, .inl x8] => zb_sayType_p213 R d x3 x6 x7 x8 S | _ => none
def zf_832 : zFn ZS := fun R d as S => match as with | [.inl x3, .inl x4, .inl x6, .inl x7, .inl x8] => zb_allFields_p199 R d x3 x4 x6 x7 x8 S | _ => none
def zf_833 : zFn ZS := fun R d as S => match as with | [.inl x3, .inl x4, .inl x5, .inl x6, .inl x7, .inl y0, .inl y2] => zb_allFields_p148 R d x3 x4 x5 x6 x7 y0 y2 S | _ => none
def zf_834 : zFn ZS := fun R d as S => match as with | [.inl x3, .inl x6, .inl x7, .inl x8] => zb_sayType_p233 R d x3 x6 x7 x8 S | _ => none
theorem ze_0 : YdF zf_0 := by
  intro d as S
  unfold zf_0
  split
  · exact zd_feed
  · exact Yd_k
theorem ze_1 : YdF zf_1 := by
  intro d as S
  unfold zf_1
  split
  · exact zd_end
  · exact Yd_k
theorem ze_2 : YdF zf_2 := by
  intro d as S
  unfold zf_2
  split
  · exact zd_bindType
  · exact Yd_k
theorem ze_3 : YdF zf_3 := by
  intro d as S
  unfold zf_3
  split
  · exact zd_unit
  · exact Yd_k
theorem ze_4 : YdF zf_4 := by
  intro d as S
  unfold zf_4
  split
  · exact zd_type
  · exact Yd_k
theorem ze_5 : YdF zf_5 := by
  intro d as S
  unfold zf_5
  split
  · exact zd_keep
  · exact Yd_k
theorem ze_6 : YdF zf_6 := by
  intro d as S
  unfold zf_6
  split
  · exact zd_kept0
  · exact Yd_k
theorem ze_7 : YdF zf_7 := by
  intro d as S
  unfold zf_7
  split
  · exact zd_sign0
  · exact Yd_k
theorem ze_8 : YdF zf_8 := by
  intro d as S
  unfold zf_8
  split
  · exact zd_find
  · exact Yd_k
theorem ze_9 : YdF zf_9 := by
  intro d as S
  unfold zf_9
  split
  · exact zd_made
  · exact Yd_k
theorem ze_10 : YdF zf_10 := by
  intro d as S
  unfold zf_10
  split
  · exact zd_arrow
  · exact Yd_k
theorem ze_11 : YdF zf_11 := by
  intro d as S
  unfold zf_11
  split
  · exact zd_field
  · exact Yd_k
theorem ze_12 : YdF zf_12 := by
  intro d as S
  unfold zf_12
  split
  · exact zd_bind
  · exact Yd_k
theorem ze_13 : YdF zf_13 := by
  intro d as S
  unfold zf_13
  split
  · exact zd_general
  · exact Yd_k
theorem ze_14 : YdF zf_14 := by
  intro d as S
  unfold zf_14
  split
  · exact zd_made_2
  · exact Yd_k
theorem ze_15 : YdF zf_15 := by
  intro d as S
  unfold zf_15
  split
  · exact zd_pairType
  · exact Yd_k
theorem ze_16 : YdF zf_16 := by
  intro d as S
  unfold zf_16
  split
  · exact zd_number
  · exact Yd_k
theorem ze_17 : YdF zf_17 := by
  intro d as S
  unfold zf_17
  split
  · exact zd_variableOf
  · exact Yd_k
theorem ze_18 : YdF zf_18 := by
  intro d as S
  unfold zf_18
  split
  · exact zd_slotOf
  · exact Yd_k
theorem ze_19 : YdF zf_19 := by
  intro d as S
  unfold zf_19
  split
  · exact zd_exceptionValue
  · exact Yd_k
theorem ze_20 : YdF zf_20 := by
  intro d as S
  unfold zf_20
  split
  · exact zd_fix
  · exact Yd_k
theorem ze_21 : YdF zf_21 := by
  intro d as S
  unfold zf_21
  split
  · exact zd_firstType
  · exact Yd_k
theorem ze_22 : YdF zf_22 := by
  intro d as S
  unfold zf_22
  split
  · exact zd_withField
  · exact Yd_k
theorem ze_23 : YdF zf_23 := by
  intro d as S
  unfold zf_23
  split
  · exact zd_begin
  · exact Yd_k
theorem ze_24 : YdF zf_24 := by
  intro d as S
  unfold zf_24
  split
  · exact zd_input
  · exact Yd_k
theorem ze_25 : YdF zf_25 := by
  intro d as S
  unfold zf_25
  split
  · exact zd_read
  · exact Yd_k
theorem ze_26 : YdF zf_26 := by
  intro d as S
  unfold zf_26
  split
  · exact zd_gaps
  · exact Yd_k
theorem ze_27 : YdF zf_27 := by
  intro d as S
  unfold zf_27
  split
  · exact zd_here
  · exact Yd_k
theorem ze_28 : YdF zf_28 := by
  intro d as S
  unfold zf_28
  split
  · exact zd_isBlank
  · exact Yd_k
theorem ze_29 : YdF zf_29 := by
  intro d as S
  unfold zf_29
  split
  · exact zd_behind
  · exact Yd_k
theorem ze_30 : YdF zf_30 := by
  intro d as S
  unfold zf_30
  split
  · exact zd_isLetter
  · exact Yd_k
theorem ze_31 : YdF zf_31 := by
  intro d as S
  unfold zf_31
  split
  · exact zd_readName
  · exact Yd_k
theorem ze_32 : YdF zf_32 := by
  intro d as S
  unfold zf_32
  split
  · exact zd_goesOn
  · exact Yd_k
theorem ze_33 : YdF zf_33 := by
  intro d as S
  unfold zf_33
  split
  · exact zd_isDigit
  · exact Yd_k
theorem ze_34 : YdF zf_34 := by
  intro d as S
  unfold zf_34
  split
  · exact zd_named
  · exact Yd_k
theorem ze_35 : YdF zf_35 := by
  intro d as S
  unfold zf_35
  split
  · exact zd_readVariable
  · exact Yd_k
theorem ze_36 : YdF zf_36 := by
  intro d as S
  unfold zf_36
  split
  · exact zd_readInt
  · exact Yd_k
theorem ze_37 : YdF zf_37 := by
  intro d as S
  unfold zf_37
  split
  · exact zd_readString
  · exact Yd_k
theorem ze_38 : YdF zf_38 := by
  intro d as S
  unfold zf_38
  split
  · exact zd_pushByte
  · exact Yd_k
theorem ze_39 : YdF zf_39 := by
  intro d as S
  unfold zf_39
  split
  · exact zd_readEscape
  · exact Yd_k
theorem ze_40 : YdF zf_40 := by
  intro d as S
  unfold zf_40
  split
  · exact zd_isSign
  · exact Yd_k
theorem ze_41 : YdF zf_41 := by
  intro d as S
  unfold zf_41
  split
  · exact zd_readSigns
  · exact Yd_k
theorem ze_42 : YdF zf_42 := by
  intro d as S
  unfold zf_42
  split
  · exact zd_readOther
  · exact Yd_k
theorem ze_43 : YdF zf_43 := by
  intro d as S
  unfold zf_43
  split
  · exact zd_step
  · exact Yd_k
theorem ze_44 : YdF zf_44 := by
  intro d as S
  unfold zf_44
  split
  · exact zd_beginsDec
  · exact Yd_k
theorem ze_45 : YdF zf_45 := by
  intro d as S
  unfold zf_45
  split
  · exact zd_is
  · exact Yd_k
theorem ze_46 : YdF zf_46 := by
  intro d as S
  unfold zf_46
  split
  · exact zd_decs
  · exact Yd_k
theorem ze_47 : YdF zf_47 := by
  intro d as S
  unfold zf_47
  split
  · exact zd_dec
  · exact Yd_k
theorem ze_48 : YdF zf_48 := by
  intro d as S
  unfold zf_48
  split
  · exact zd_local
  · exact Yd_k
theorem ze_49 : YdF zf_49 := by
  intro d as S
  unfold zf_49
  split
  · exact zd_opens
  · exact Yd_k
theorem ze_50 : YdF zf_50 := by
  intro d as S
  unfold zf_50
  split
  · exact zd_need
  · exact Yd_k
theorem ze_51 : YdF zf_51 := by
  intro d as S
  unfold zf_51
  split
  · exact zd_closes
  · exact Yd_k
theorem ze_52 : YdF zf_52 := by
  intro d as S
  unfold zf_52
  split
  · exact zd_node
  · exact Yd_k
theorem ze_53 : YdF zf_53 := by
  intro d as S
  unfold zf_53
  split
  · exact zd_has
  · exact Yd_k
theorem ze_54 : YdF zf_54 := by
  intro d as S
  unfold zf_54
  split
  · exact zd_binds
  · exact Yd_k
theorem ze_55 : YdF zf_55 := by
  intro d as S
  unfold zf_55
  split
  · exact zd_pattern
  · exact Yd_k
theorem ze_56 : YdF zf_56 := by
  intro d as S
  unfold zf_56
  split
  · exact zd_infixed
  · exact Yd_k
theorem ze_57 : YdF zf_57 := by
  intro d as S
  unfold zf_57
  split
  · exact zd_push
  · exact Yd_k
theorem ze_58 : YdF zf_58 := by
  intro d as S
  unfold zf_58
  split
  · exact zd_appliedPattern
  · exact Yd_k
theorem ze_59 : YdF zf_59 := by
  intro d as S
  unfold zf_59
  split
  · exact zd_isOpName
  · exact Yd_k
theorem ze_60 : YdF zf_60 := by
  intro d as S
  unfold zf_60
  split
  · exact zd_isInfix
  · exact Yd_k
theorem ze_61 : YdF zf_61 := by
  intro d as S
  unfold zf_61
  split
  · exact zd_fixOf
  · exact Yd_k
theorem ze_62 : YdF zf_62 := by
  intro d as S
  unfold zf_62
  split
  · exact zd_strength
  · exact Yd_k
theorem ze_63 : YdF zf_63 := by
  intro d as S
  unfold zf_63
  split
  · exact zd_atomPattern
  · exact Yd_k
theorem ze_64 : YdF zf_64 := by
  intro d as S
  unfold zf_64
  split
  · exact zd_constant
  · exact Yd_k
theorem ze_65 : YdF zf_65 := by
  intro d as S
  unfold zf_65
  split
  · exact zd_patternRow
  · exact Yd_k
theorem ze_66 : YdF zf_66 := by
  intro d as S
  unfold zf_66
  split
  · exact zd_patternField
  · exact Yd_k
theorem ze_67 : YdF zf_67 := by
  intro d as S
  unfold zf_67
  split
  · exact zd_label
  · exact Yd_k
theorem ze_68 : YdF zf_68 := by
  intro d as S
  unfold zf_68
  split
  · exact zd_isLabel
  · exact Yd_k
theorem ze_69 : YdF zf_69 := by
  intro d as S
  unfold zf_69
  split
  · exact zd_type_2
  · exact Yd_k
theorem ze_70 : YdF zf_70 := by
  intro d as S
  unfold zf_70
  split
  · exact zd_tupleType
  · exact Yd_k
theorem ze_71 : YdF zf_71 := by
  intro d as S
  unfold zf_71
  split
  · exact zd_suffixed
  · exact Yd_k
theorem ze_72 : YdF zf_72 := by
  intro d as S
  unfold zf_72
  split
  · exact zd_atomicType
  · exact Yd_k
theorem ze_73 : YdF zf_73 := by
  intro d as S
  unfold zf_73
  split
  · exact zd_typeRow
  · exact Yd_k
theorem ze_74 : YdF zf_74 := by
  intro d as S
  unfold zf_74
  split
  · exact zd_patternHeld
  · exact Yd_k
theorem ze_75 : YdF zf_75 := by
  intro d as S
  unfold zf_75
  split
  · exact zd_opName
  · exact Yd_k
theorem ze_76 : YdF zf_76 := by
  intro d as S
  unfold zf_76
  split
  · exact zd_anyName
  · exact Yd_k
theorem ze_77 : YdF zf_77 := by
  intro d as S
  unfold zf_77
  split
  · exact zd_plainName
  · exact Yd_k
theorem ze_78 : YdF zf_78 := by
  intro d as S
  unfold zf_78
  split
  · exact zd_beginsAtomPattern
  · exact Yd_k
theorem ze_79 : YdF zf_79 := by
  intro d as S
  unfold zf_79
  split
  · exact zd_applications
  · exact Yd_k
theorem ze_80 : YdF zf_80 := by
  intro d as S
  unfold zf_80
  split
  · exact zd_atom
  · exact Yd_k
theorem ze_81 : YdF zf_81 := by
  intro d as S
  unfold zf_81
  split
  · exact zd_expressionRow
  · exact Yd_k
theorem ze_82 : YdF zf_82 := by
  intro d as S
  unfold zf_82
  split
  · exact zd_expression
  · exact Yd_k
theorem ze_83 : YdF zf_83 := by
  intro d as S
  unfold zf_83
  split
  · exact zd_match
  · exact Yd_k
theorem ze_84 : YdF zf_84 := by
  intro d as S
  unfold zf_84
  split
  · exact zd_rule
  · exact Yd_k
theorem ze_85 : YdF zf_85 := by
  intro d as S
  unfold zf_85
  split
  · exact zd_orelse
  · exact Yd_k
theorem ze_86 : YdF zf_86 := by
  intro d as S
  unfold zf_86
  split
  · exact zd_andalso
  · exact Yd_k
theorem ze_87 : YdF zf_87 := by
  intro d as S
  unfold zf_87
  split
  · exact zd_typed
  · exact Yd_k
theorem ze_88 : YdF zf_88 := by
  intro d as S
  unfold zf_88
  split
  · exact zd_beginsBig
  · exact Yd_k
theorem ze_89 : YdF zf_89 := by
  intro d as S
  unfold zf_89
  split
  · exact zd_expressionHeld
  · exact Yd_k
theorem ze_90 : YdF zf_90 := by
  intro d as S
  unfold zf_90
  split
  · exact zd_row
  · exact Yd_k
theorem ze_91 : YdF zf_91 := by
  intro d as S
  unfold zf_91
  split
  · exact zd_let
  · exact Yd_k
theorem ze_92 : YdF zf_92 := by
  intro d as S
  unfold zf_92
  split
  · exact zd_beginsAtom
  · exact Yd_k
theorem ze_93 : YdF zf_93 := by
  intro d as S
  unfold zf_93
  split
  · exact zd_isInfixHere
  · exact Yd_k
theorem ze_94 : YdF zf_94 := by
  intro d as S
  unfold zf_94
  split
  · exact zd_isRight
  · exact Yd_k
theorem ze_95 : YdF zf_95 := by
  intro d as S
  unfold zf_95
  split
  · exact zd_reduce
  · exact Yd_k
theorem ze_96 : YdF zf_96 := by
  intro d as S
  unfold zf_96
  split
  · exact zd_functions
  · exact Yd_k
theorem ze_97 : YdF zf_97 := by
  intro d as S
  unfold zf_97
  split
  · exact zd_clauses
  · exact Yd_k
theorem ze_98 : YdF zf_98 := by
  intro d as S
  unfold zf_98
  split
  · exact zd_clause
  · exact Yd_k
theorem ze_99 : YdF zf_99 := by
  intro d as S
  unfold zf_99
  split
  · exact zd_pair
  · exact Yd_k
theorem ze_100 : YdF zf_100 := by
  intro d as S
  unfold zf_100
  split
  · exact zd_variables
  · exact Yd_k
theorem ze_101 : YdF zf_101 := by
  intro d as S
  unfold zf_101
  split
  · exact zd_variable
  · exact Yd_k
theorem ze_102 : YdF zf_102 := by
  intro d as S
  unfold zf_102
  split
  · exact zd_datas
  · exact Yd_k
theorem ze_103 : YdF zf_103 := by
  intro d as S
  unfold zf_103
  split
  · exact zd_constructors
  · exact Yd_k
theorem ze_104 : YdF zf_104 := by
  intro d as S
  unfold zf_104
  split
  · exact zd_freeName
  · exact Yd_k
theorem ze_105 : YdF zf_105 := by
  intro d as S
  unfold zf_105
  split
  · exact zd_exception
  · exact Yd_k
theorem ze_106 : YdF zf_106 := by
  intro d as S
  unfold zf_106
  split
  · exact zd_infixes
  · exact Yd_k
theorem ze_107 : YdF zf_107 := by
  intro d as S
  unfold zf_107
  split
  · exact zd_valuesAtBegin
  · exact Yd_k
theorem ze_108 : YdF zf_108 := by
  intro d as S
  unfold zf_108
  split
  · exact zd_beginCode
  · exact Yd_k
theorem ze_109 : YdF zf_109 := by
  intro d as S
  unfold zf_109
  split
  · exact zd_judgedDec
  · exact Yd_k
theorem ze_110 : YdF zf_110 := by
  intro d as S
  unfold zf_110
  split
  · exact zd_judgedVal
  · exact Yd_k
theorem ze_111 : YdF zf_111 := by
  intro d as S
  unfold zf_111
  split
  · exact zd_enterVariables
  · exact Yd_k
theorem ze_112 : YdF zf_112 := by
  intro d as S
  unfold zf_112
  split
  · exact zd_lookAll
  · exact Yd_k
theorem ze_113 : YdF zf_113 := by
  intro d as S
  unfold zf_113
  split
  · exact zd_look
  · exact Yd_k
theorem ze_114 : YdF zf_114 := by
  intro d as S
  unfold zf_114
  split
  · exact zd_found
  · exact Yd_k
theorem ze_115 : YdF zf_115 := by
  intro d as S
  unfold zf_115
  split
  · exact zd_judgedPattern
  · exact Yd_k
theorem ze_116 : YdF zf_116 := by
  intro d as S
  unfold zf_116
  split
  · exact zd_unknown
  · exact Yd_k
theorem ze_117 : YdF zf_117 := by
  intro d as S
  unfold zf_117
  split
  · exact zd_patternName
  · exact Yd_k
theorem ze_118 : YdF zf_118 := by
  intro d as S
  unfold zf_118
  split
  · exact zd_valueOf
  · exact Yd_k
theorem ze_119 : YdF zf_119 := by
  intro d as S
  unfold zf_119
  split
  · exact zd_hasArgument
  · exact Yd_k
theorem ze_120 : YdF zf_120 := by
  intro d as S
  unfold zf_120
  split
  · exact zd_meet
  · exact Yd_k
theorem ze_121 : YdF zf_121 := by
  intro d as S
  unfold zf_121
  split
  · exact zd_use
  · exact Yd_k
theorem ze_122 : YdF zf_122 := by
  intro d as S
  unfold zf_122
  split
  · exact zd_isTop
  · exact Yd_k
theorem ze_123 : YdF zf_123 := by
  intro d as S
  unfold zf_123
  split
  · exact zd_ownerOf
  · exact Yd_k
theorem ze_124 : YdF zf_124 := by
  intro d as S
  unfold zf_124
  split
  · exact zd_isUsed
  · exact Yd_k
theorem ze_125 : YdF zf_125 := by
  intro d as S
  unfold zf_125
  split
  · exact zd_instance
  · exact Yd_k
theorem ze_126 : YdF zf_126 := by
  intro d as S
  unfold zf_126
  split
  · exact zd_made0
  · exact Yd_k
theorem ze_127 : YdF zf_127 := by
  intro d as S
  unfold zf_127
  split
  · exact zd_madeFrom
  · exact Yd_k
theorem ze_128 : YdF zf_128 := by
  intro d as S
  unfold zf_128
  split
  · exact zd_readSign
  · exact Yd_k
theorem ze_129 : YdF zf_129 := by
  intro d as S
  unfold zf_129
  split
  · exact zd_instanceOf
  · exact Yd_k
theorem ze_130 : YdF zf_130 := by
  intro d as S
  unfold zf_130
  split
  · exact zd_enter
  · exact Yd_k
theorem ze_131 : YdF zf_131 := by
  intro d as S
  unfold zf_131
  split
  · exact zd_copied
  · exact Yd_k
theorem ze_132 : YdF zf_132 := by
  intro d as S
  unfold zf_132
  split
  · exact zd_pend
  · exact Yd_k
theorem ze_133 : YdF zf_133 := by
  intro d as S
  unfold zf_133
  split
  · exact zd_isFixed
  · exact Yd_k
theorem ze_134 : YdF zf_134 := by
  intro d as S
  unfold zf_134
  split
  · exact zd_countTop
  · exact Yd_k
theorem ze_135 : YdF zf_135 := by
  intro d as S
  unfold zf_135
  split
  · exact zd_patternCon
  · exact Yd_k
theorem ze_136 : YdF zf_136 := by
  intro d as S
  unfold zf_136
  split
  · exact zd_join
  · exact Yd_k
theorem ze_137 : YdF zf_137 := by
  intro d as S
  unfold zf_137
  split
  · exact zd_joined
  · exact Yd_k
theorem ze_138 : YdF zf_138 := by
  intro d as S
  unfold zf_138
  split
  · exact zd_later
  · exact Yd_k
theorem ze_139 : YdF zf_139 := by
  intro d as S
  unfold zf_139
  split
  · exact zd_merge
  · exact Yd_k
theorem ze_140 : YdF zf_140 := by
  intro d as S
  unfold zf_140
  split
  · exact zd_becomes
  · exact Yd_k
theorem ze_141 : YdF zf_141 := by
  intro d as S
  unfold zf_141
  split
  · exact zd_isOrdered
  · exact Yd_k
theorem ze_142 : YdF zf_142 := by
  intro d as S
  unfold zf_142
  split
  · exact zd_mergeRows
  · exact Yd_k
theorem ze_143 : YdF zf_143 := by
  intro d as S
  unfold zf_143
  split
  · exact zd_partOf
  · exact Yd_k
theorem ze_144 : YdF zf_144 := by
  intro d as S
  unfold zf_144
  split
  · exact zd_allFields
  · exact Yd_k
theorem ze_145 : YdF zf_145 := by
  intro d as S
  unfold zf_145
  split
  · exact zd_fieldsFrom
  · exact Yd_k
theorem ze_146 : YdF zf_146 := by
  intro d as S
  unfold zf_146
  split
  · exact zd_mergeMade
  · exact Yd_k
theorem ze_147 : YdF zf_147 := by
  intro d as S
  unfold zf_147
  split
  · exact zd_isEndless
  · exact Yd_k
theorem ze_148 : YdF zf_148 := by
  intro d as S
  unfold zf_148
  split
  · exact zd_admit
  · exact Yd_k
theorem ze_149 : YdF zf_149 := by
  intro d as S
  unfold zf_149
  split
  · exact zd_isEqualVariable
  · exact Yd_k
theorem ze_150 : YdF zf_150 := by
  intro d as S
  unfold zf_150
  split
  · exact zd_asks
  · exact Yd_k
theorem ze_151 : YdF zf_151 := by
  intro d as S
  unfold zf_151
  split
  · exact zd_patternTuple
  · exact Yd_k
theorem ze_152 : YdF zf_152 := by
  intro d as S
  unfold zf_152
  split
  · exact zd_patternParts
  · exact Yd_k
theorem ze_153 : YdF zf_153 := by
  intro d as S
  unfold zf_153
  split
  · exact zd_patternList
  · exact Yd_k
theorem ze_154 : YdF zf_154 := by
  intro d as S
  unfold zf_154
  split
  · exact zd_meant
  · exact Yd_k
theorem ze_155 : YdF zf_155 := by
  intro d as S
  unfold zf_155
  split
  · exact zd_toldVariable
  · exact Yd_k
theorem ze_156 : YdF zf_156 := by
  intro d as S
  unfold zf_156
  split
  · exact zd_toldName
  · exact Yd_k
theorem ze_157 : YdF zf_157 := by
  intro d as S
  unfold zf_157
  split
  · exact zd_toldOne
  · exact Yd_k
theorem ze_158 : YdF zf_158 := by
  intro d as S
  unfold zf_158
  split
  · exact zd_typeNamed
  · exact Yd_k
theorem ze_159 : YdF zf_159 := by
  intro d as S
  unfold zf_159
  split
  · exact zd_standsFor
  · exact Yd_k
theorem ze_160 : YdF zf_160 := by
  intro d as S
  unfold zf_160
  split
  · exact zd_toldRow
  · exact Yd_k
theorem ze_161 : YdF zf_161 := by
  intro d as S
  unfold zf_161
  split
  · exact zd_patternAs
  · exact Yd_k
theorem ze_162 : YdF zf_162 := by
  intro d as S
  unfold zf_162
  split
  · exact zd_judged
  · exact Yd_k
theorem ze_163 : YdF zf_163 := by
  intro d as S
  unfold zf_163
  split
  · exact zd_judgedName
  · exact Yd_k
theorem ze_164 : YdF zf_164 := by
  intro d as S
  unfold zf_164
  split
  · exact zd_judgedRow
  · exact Yd_k
theorem ze_165 : YdF zf_165 := by
  intro d as S
  unfold zf_165
  split
  · exact zd_judgedTuple
  · exact Yd_k
theorem ze_166 : YdF zf_166 := by
  intro d as S
  unfold zf_166
  split
  · exact zd_judgedApplication
  · exact Yd_k
theorem ze_167 : YdF zf_167 := by
  intro d as S
  unfold zf_167
  split
  · exact zd_judgedInfix
  · exact Yd_k
theorem ze_168 : YdF zf_168 := by
  intro d as S
  unfold zf_168
  split
  · exact zd_judgedIf
  · exact Yd_k
theorem ze_169 : YdF zf_169 := by
  intro d as S
  unfold zf_169
  split
  · exact zd_rules
  · exact Yd_k
theorem ze_170 : YdF zf_170 := by
  intro d as S
  unfold zf_170
  split
  · exact zd_bindPending
  · exact Yd_k
theorem ze_171 : YdF zf_171 := by
  intro d as S
  unfold zf_171
  split
  · exact zd_countOf
  · exact Yd_k
theorem ze_172 : YdF zf_172 := by
  intro d as S
  unfold zf_172
  split
  · exact zd_times
  · exact Yd_k
theorem ze_173 : YdF zf_173 := by
  intro d as S
  unfold zf_173
  split
  · exact zd_match_2
  · exact Yd_k
theorem ze_174 : YdF zf_174 := by
  intro d as S
  unfold zf_174
  split
  · exact zd_judgedFn
  · exact Yd_k
theorem ze_175 : YdF zf_175 := by
  intro d as S
  unfold zf_175
  split
  · exact zd_endCode
  · exact Yd_k
theorem ze_176 : YdF zf_176 := by
  intro d as S
  unfold zf_176
  split
  · exact zd_judgedOther
  · exact Yd_k
theorem ze_177 : YdF zf_177 := by
  intro d as S
  unfold zf_177
  split
  · exact zd_judgedSequence
  · exact Yd_k
theorem ze_178 : YdF zf_178 := by
  intro d as S
  unfold zf_178
  split
  · exact zd_judgedLet
  · exact Yd_k
theorem ze_179 : YdF zf_179 := by
  intro d as S
  unfold zf_179
  split
  · exact zd_does
  · exact Yd_k
theorem ze_180 : YdF zf_180 := by
  intro d as S
  unfold zf_180
  split
  · exact zd_isMaker
  · exact Yd_k
theorem ze_181 : YdF zf_181 := by
  intro d as S
  unfold zf_181
  split
  · exact zd_kindIn
  · exact Yd_k
theorem ze_182 : YdF zf_182 := by
  intro d as S
  unfold zf_182
  split
  · exact zd_infoIn
  · exact Yd_k
theorem ze_183 : YdF zf_183 := by
  intro d as S
  unfold zf_183
  split
  · exact zd_through
  · exact Yd_k
theorem ze_184 : YdF zf_184 := by
  intro d as S
  unfold zf_184
  split
  · exact zd_sizeOf
  · exact Yd_k
theorem ze_185 : YdF zf_185 := by
  intro d as S
  unfold zf_185
  split
  · exact zd_enterSize
  · exact Yd_k
theorem ze_186 : YdF zf_186 := by
  intro d as S
  unfold zf_186
  split
  · exact zd_markRim
  · exact Yd_k
theorem ze_187 : YdF zf_187 := by
  intro d as S
  unfold zf_187
  split
  · exact zd_spreadRim
  · exact Yd_k
theorem ze_188 : YdF zf_188 := by
  intro d as S
  unfold zf_188
  split
  · exact zd_generalise
  · exact Yd_k
theorem ze_189 : YdF zf_189 := by
  intro d as S
  unfold zf_189
  split
  · exact zd_bindLines
  · exact Yd_k
theorem ze_190 : YdF zf_190 := by
  intro d as S
  unfold zf_190
  split
  · exact zd_line
  · exact Yd_k
theorem ze_191 : YdF zf_191 := by
  intro d as S
  unfold zf_191
  split
  · exact zd_judgedRec
  · exact Yd_k
theorem ze_192 : YdF zf_192 := by
  intro d as S
  unfold zf_192
  split
  · exact zd_judgedFun
  · exact Yd_k
theorem ze_193 : YdF zf_193 := by
  intro d as S
  unfold zf_193
  split
  · exact zd_judgedFunction
  · exact Yd_k
theorem ze_194 : YdF zf_194 := by
  intro d as S
  unfold zf_194
  split
  · exact zd_judgedClause
  · exact Yd_k
theorem ze_195 : YdF zf_195 := by
  intro d as S
  unfold zf_195
  split
  · exact zd_judgedType
  · exact Yd_k
theorem ze_196 : YdF zf_196 := by
  intro d as S
  unfold zf_196
  split
  · exact zd_listed
  · exact Yd_k
theorem ze_197 : YdF zf_197 := by
  intro d as S
  unfold zf_197
  split
  · exact zd_judgedData
  · exact Yd_k
theorem ze_198 : YdF zf_198 := by
  intro d as S
  unfold zf_198
  split
  · exact zd_judgedCons
  · exact Yd_k
theorem ze_199 : YdF zf_199 := by
  intro d as S
  unfold zf_199
  split
  · exact zd_conOf
  · exact Yd_k
theorem ze_200 : YdF zf_200 := by
  intro d as S
  unfold zf_200
  split
  · exact zd_hasPart0
  · exact Yd_k
theorem ze_201 : YdF zf_201 := by
  intro d as S
  unfold zf_201
  split
  · exact zd_admits
  · exact Yd_k
theorem ze_202 : YdF zf_202 := by
  intro d as S
  unfold zf_202
  split
  · exact zd_judgedException
  · exact Yd_k
theorem ze_203 : YdF zf_203 := by
  intro d as S
  unfold zf_203
  split
  · exact zd_judgedSame
  · exact Yd_k
theorem ze_204 : YdF zf_204 := by
  intro d as S
  unfold zf_204
  split
  · exact zd_judgedLocal
  · exact Yd_k
theorem ze_205 : YdF zf_205 := by
  intro d as S
  unfold zf_205
  split
  · exact zd_finish
  · exact Yd_k
theorem ze_206 : YdF zf_206 := by
  intro d as S
  unfold zf_206
  split
  · exact zd_hasUnknown
  · exact Yd_k
theorem ze_207 : YdF zf_207 := by
  intro d as S
  unfold zf_207
  split
  · exact zd_noteAll
  · exact Yd_k
theorem ze_208 : YdF zf_208 := by
  intro d as S
  unfold zf_208
  split
  · exact zd_isUseful
  · exact Yd_k
theorem ze_209 : YdF zf_209 := by
  intro d as S
  unfold zf_209
  split
  · exact zd_usefulHere
  · exact Yd_k
theorem ze_210 : YdF zf_210 := by
  intro d as S
  unfold zf_210
  split
  · exact zd_takesAll
  · exact Yd_k
theorem ze_211 : YdF zf_211 := by
  intro d as S
  unfold zf_211
  split
  · exact zd_normal
  · exact Yd_k
theorem ze_212 : YdF zf_212 := by
  intro d as S
  unfold zf_212
  split
  · exact zd_bare0
  · exact Yd_k
theorem ze_213 : YdF zf_213 := by
  intro d as S
  unfold zf_213
  split
  · exact zd_headOf
  · exact Yd_k
theorem ze_214 : YdF zf_214 := by
  intro d as S
  unfold zf_214
  split
  · exact zd_rowStep
  · exact Yd_k
theorem ze_215 : YdF zf_215 := by
  intro d as S
  unfold zf_215
  split
  · exact zd_labelsOf
  · exact Yd_k
theorem ze_216 : YdF zf_216 := by
  intro d as S
  unfold zf_216
  split
  · exact zd_partAt
  · exact Yd_k
theorem ze_217 : YdF zf_217 := by
  intro d as S
  unfold zf_217
  split
  · exact zd_hasLabel
  · exact Yd_k
theorem ze_218 : YdF zf_218 := by
  intro d as S
  unfold zf_218
  split
  · exact zd_hasPart
  · exact Yd_k
theorem ze_219 : YdF zf_219 := by
  intro d as S
  unfold zf_219
  split
  · exact zd_narrowed
  · exact Yd_k
theorem ze_220 : YdF zf_220 := by
  intro d as S
  unfold zf_220
  split
  · exact zd_agrees
  · exact Yd_k
theorem ze_221 : YdF zf_221 := by
  intro d as S
  unfold zf_221
  split
  · exact zd_makerOf
  · exact Yd_k
theorem ze_222 : YdF zf_222 := by
  intro d as S
  unfold zf_222
  split
  · exact zd_isSameConstant
  · exact Yd_k
theorem ze_223 : YdF zf_223 := by
  intro d as S
  unfold zf_223
  split
  · exact zd_order0
  · exact Yd_k
theorem ze_224 : YdF zf_224 := by
  intro d as S
  unfold zf_224
  split
  · exact zd_sizeIn
  · exact Yd_k
theorem ze_225 : YdF zf_225 := by
  intro d as S
  unfold zf_225
  split
  · exact zd_byteIn
  · exact Yd_k
theorem ze_226 : YdF zf_226 := by
  intro d as S
  unfold zf_226
  split
  · exact zd_exceptionIn
  · exact Yd_k
theorem ze_227 : YdF zf_227 := by
  intro d as S
  unfold zf_227
  split
  · exact zd_partOfPattern
  · exact Yd_k
theorem ze_228 : YdF zf_228 := by
  intro d as S
  unfold zf_228
  split
  · exact zd_areAllTold
  · exact Yd_k
theorem ze_229 : YdF zf_229 := by
  intro d as S
  unfold zf_229
  split
  · exact zd_usefulByEach
  · exact Yd_k
theorem ze_230 : YdF zf_230 := by
  intro d as S
  unfold zf_230
  split
  · exact zd_slide
  · exact Yd_k
theorem ze_231 : YdF zf_231 := by
  intro d as S
  unfold zf_231
  split
  · exact zd_note0
  · exact Yd_k
theorem ze_232 : YdF zf_232 := by
  intro d as S
  unfold zf_232
  split
  · exact zd_giveBack
  · exact Yd_k
theorem ze_233 : YdF zf_233 := by
  intro d as S
  unfold zf_233
  split
  · exact zd_runAll
  · exact Yd_k
theorem ze_234 : YdF zf_234 := by
  intro d as S
  unfold zf_234
  split
  · exact zd_push0
  · exact Yd_k
theorem ze_235 : YdF zf_235 := by
  intro d as S
  unfold zf_235
  split
  · exact zd_gives
  · exact Yd_k
theorem ze_236 : YdF zf_236 := by
  intro d as S
  unfold zf_236
  split
  · exact zd_work
  · exact Yd_k
theorem ze_237 : YdF zf_237 := by
  intro d as S
  unfold zf_237
  split
  · exact zd_value
  · exact Yd_k
theorem ze_238 : YdF zf_238 := by
  intro d as S
  unfold zf_238
  split
  · exact zd_named0
  · exact Yd_k
theorem ze_239 : YdF zf_239 := by
  intro d as S
  unfold zf_239
  split
  · exact zd_load
  · exact Yd_k
theorem ze_240 : YdF zf_240 := by
  intro d as S
  unfold zf_240
  split
  · exact zd_numberOf
  · exact Yd_k
theorem ze_241 : YdF zf_241 := by
  intro d as S
  unfold zf_241
  split
  · exact zd_placeIn
  · exact Yd_k
theorem ze_242 : YdF zf_242 := by
  intro d as S
  unfold zf_242
  split
  · exact zd_closure
  · exact Yd_k
theorem ze_243 : YdF zf_243 := by
  intro d as S
  unfold zf_243
  split
  · exact zd_cells
  · exact Yd_k
theorem ze_244 : YdF zf_244 := by
  intro d as S
  unfold zf_244
  split
  · exact zd_place
  · exact Yd_k
theorem ze_245 : YdF zf_245 := by
  intro d as S
  unfold zf_245
  split
  · exact zd_waitFor
  · exact Yd_k
theorem ze_246 : YdF zf_246 := by
  intro d as S
  unfold zf_246
  split
  · exact zd_goTo
  · exact Yd_k
theorem ze_247 : YdF zf_247 := by
  intro d as S
  unfold zf_247
  split
  · exact zd_applications0
  · exact Yd_k
theorem ze_248 : YdF zf_248 := by
  intro d as S
  unfold zf_248
  split
  · exact zd_test
  · exact Yd_k
theorem ze_249 : YdF zf_249 := by
  intro d as S
  unfold zf_249
  split
  · exact zd_step1
  · exact Yd_k
theorem ze_250 : YdF zf_250 := by
  intro d as S
  unfold zf_250
  split
  · exact zd_sequence
  · exact Yd_k
theorem ze_251 : YdF zf_251 := by
  intro d as S
  unfold zf_251
  split
  · exact zd_workOther
  · exact Yd_k
theorem ze_252 : YdF zf_252 := by
  intro d as S
  unfold zf_252
  split
  · exact zd_goesOn_2
  · exact Yd_k
theorem ze_253 : YdF zf_253 := by
  intro d as S
  unfold zf_253
  split
  · exact zd_raises
  · exact Yd_k
theorem ze_254 : YdF zf_254 := by
  intro d as S
  unfold zf_254
  split
  · exact zd_isTrue
  · exact Yd_k
theorem ze_255 : YdF zf_255 := by
  intro d as S
  unfold zf_255
  split
  · exact zd_choose
  · exact Yd_k
theorem ze_256 : YdF zf_256 := by
  intro d as S
  unfold zf_256
  split
  · exact zd_matches
  · exact Yd_k
theorem ze_257 : YdF zf_257 := by
  intro d as S
  unfold zf_257
  split
  · exact zd_store
  · exact Yd_k
theorem ze_258 : YdF zf_258 := by
  intro d as S
  unfold zf_258
  split
  · exact zd_kindOf
  · exact Yd_k
theorem ze_259 : YdF zf_259 := by
  intro d as S
  unfold zf_259
  split
  · exact zd_matchesRow
  · exact Yd_k
theorem ze_260 : YdF zf_260 := by
  intro d as S
  unfold zf_260
  split
  · exact zd_part
  · exact Yd_k
theorem ze_261 : YdF zf_261 := by
  intro d as S
  unfold zf_261
  split
  · exact zd_manyOf
  · exact Yd_k
theorem ze_262 : YdF zf_262 := by
  intro d as S
  unfold zf_262
  split
  · exact zd_labelOf
  · exact Yd_k
theorem ze_263 : YdF zf_263 := by
  intro d as S
  unfold zf_263
  split
  · exact zd_partOf_2
  · exact Yd_k
theorem ze_264 : YdF zf_264 := by
  intro d as S
  unfold zf_264
  split
  · exact zd_matchesTuple
  · exact Yd_k
theorem ze_265 : YdF zf_265 := by
  intro d as S
  unfold zf_265
  split
  · exact zd_matchesList
  · exact Yd_k
theorem ze_266 : YdF zf_266 := by
  intro d as S
  unfold zf_266
  split
  · exact zd_isMadeBy
  · exact Yd_k
theorem ze_267 : YdF zf_267 := by
  intro d as S
  unfold zf_267
  split
  · exact zd_back
  · exact Yd_k
theorem ze_268 : YdF zf_268 := by
  intro d as S
  unfold zf_268
  split
  · exact zd_goesOnMore
  · exact Yd_k
theorem ze_269 : YdF zf_269 := by
  intro d as S
  unfold zf_269
  split
  · exact zd_apply
  · exact Yd_k
theorem ze_270 : YdF zf_270 := by
  intro d as S
  unfold zf_270
  split
  · exact zd_makes
  · exact Yd_k
theorem ze_271 : YdF zf_271 := by
  intro d as S
  unfold zf_271
  split
  · exact zd_thrownWith
  · exact Yd_k
theorem ze_272 : YdF zf_272 := by
  intro d as S
  unfold zf_272
  split
  · exact zd_firstOf
  · exact Yd_k
theorem ze_273 : YdF zf_273 := by
  intro d as S
  unfold zf_273
  split
  · exact zd_isOfTwo
  · exact Yd_k
theorem ze_274 : YdF zf_274 := by
  intro d as S
  unfold zf_274
  split
  · exact zd_first
  · exact Yd_k
theorem ze_275 : YdF zf_275 := by
  intro d as S
  unfold zf_275
  split
  · exact zd_areEqual
  · exact Yd_k
theorem ze_276 : YdF zf_276 := by
  intro d as S
  unfold zf_276
  split
  · exact zd_rowAhead
  · exact Yd_k
theorem ze_277 : YdF zf_277 := by
  intro d as S
  unfold zf_277
  split
  · exact zd_order
  · exact Yd_k
theorem ze_278 : YdF zf_278 := by
  intro d as S
  unfold zf_278
  split
  · exact zd_truth
  · exact Yd_k
theorem ze_279 : YdF zf_279 := by
  intro d as S
  unfold zf_279
  split
  · exact zd_intOf
  · exact Yd_k
theorem ze_280 : YdF zf_280 := by
  intro d as S
  unfold zf_280
  split
  · exact zd_joinedStrings
  · exact Yd_k
theorem ze_281 : YdF zf_281 := by
  intro d as S
  unfold zf_281
  split
  · exact zd_stringOf
  · exact Yd_k
theorem ze_282 : YdF zf_282 := by
  intro d as S
  unfold zf_282
  split
  · exact zd_substringOf
  · exact Yd_k
theorem ze_283 : YdF zf_283 := by
  intro d as S
  unfold zf_283
  split
  · exact zd_exploded
  · exact Yd_k
theorem ze_284 : YdF zf_284 := by
  intro d as S
  unfold zf_284
  split
  · exact zd_pairOf
  · exact Yd_k
theorem ze_285 : YdF zf_285 := by
  intro d as S
  unfold zf_285
  split
  · exact zd_tuple
  · exact Yd_k
theorem ze_286 : YdF zf_286 := by
  intro d as S
  unfold zf_286
  split
  · exact zd_imploded
  · exact Yd_k
theorem ze_287 : YdF zf_287 := by
  intro d as S
  unfold zf_287
  split
  · exact zd_rest
  · exact Yd_k
theorem ze_288 : YdF zf_288 := by
  intro d as S
  unfold zf_288
  split
  · exact zd_thing
  · exact Yd_k
theorem ze_289 : YdF zf_289 := by
  intro d as S
  unfold zf_289
  split
  · exact zd_digitsOf
  · exact Yd_k
theorem ze_290 : YdF zf_290 := by
  intro d as S
  unfold zf_290
  split
  · exact zd_putOut
  · exact Yd_k
theorem ze_291 : YdF zf_291 := by
  intro d as S
  unfold zf_291
  split
  · exact zd_functionOf
  · exact Yd_k
theorem ze_292 : YdF zf_292 := by
  intro d as S
  unfold zf_292
  split
  · exact zd_partial
  · exact Yd_k
theorem ze_293 : YdF zf_293 := by
  intro d as S
  unfold zf_293
  split
  · exact zd_call
  · exact Yd_k
theorem ze_294 : YdF zf_294 := by
  intro d as S
  unfold zf_294
  split
  · exact zd_body
  · exact Yd_k
theorem ze_295 : YdF zf_295 := by
  intro d as S
  unfold zf_295
  split
  · exact zd_infix
  · exact Yd_k
theorem ze_296 : YdF zf_296 := by
  intro d as S
  unfold zf_296
  split
  · exact zd_decs0
  · exact Yd_k
theorem ze_297 : YdF zf_297 := by
  intro d as S
  unfold zf_297
  split
  · exact zd_rec
  · exact Yd_k
theorem ze_298 : YdF zf_298 := by
  intro d as S
  unfold zf_298
  split
  · exact zd_nameIn
  · exact Yd_k
theorem ze_299 : YdF zf_299 := by
  intro d as S
  unfold zf_299
  split
  · exact zd_tie
  · exact Yd_k
theorem ze_300 : YdF zf_300 := by
  intro d as S
  unfold zf_300
  split
  · exact zd_fun
  · exact Yd_k
theorem ze_301 : YdF zf_301 := by
  intro d as S
  unfold zf_301
  split
  · exact zd_bound
  · exact Yd_k
theorem ze_302 : YdF zf_302 := by
  intro d as S
  unfold zf_302
  split
  · exact zd_oneMore
  · exact Yd_k
theorem ze_303 : YdF zf_303 := by
  intro d as S
  unfold zf_303
  split
  · exact zd_listOf
  · exact Yd_k
theorem ze_304 : YdF zf_304 := by
  intro d as S
  unfold zf_304
  split
  · exact zd_rowOf
  · exact Yd_k
theorem ze_305 : YdF zf_305 := by
  intro d as S
  unfold zf_305
  split
  · exact zd_shapeOf
  · exact Yd_k
theorem ze_306 : YdF zf_306 := by
  intro d as S
  unfold zf_306
  split
  · exact zd_isAhead
  · exact Yd_k
theorem ze_307 : YdF zf_307 := by
  intro d as S
  unfold zf_307
  split
  · exact zd_likeShape
  · exact Yd_k
theorem ze_308 : YdF zf_308 := by
  intro d as S
  unfold zf_308
  split
  · exact zd_unwind
  · exact Yd_k
theorem ze_309 : YdF zf_309 := by
  intro d as S
  unfold zf_309
  split
  · exact zd_keepBound
  · exact Yd_k
theorem ze_310 : YdF zf_310 := by
  intro d as S
  unfold zf_310
  split
  · exact zd_keepInfix
  · exact Yd_k
theorem ze_311 : YdF zf_311 := by
  intro d as S
  unfold zf_311
  split
  · exact zd_keepTypes
  · exact Yd_k
theorem ze_312 : YdF zf_312 := by
  intro d as S
  unfold zf_312
  split
  · exact zd_endOf
  · exact Yd_k
theorem ze_313 : YdF zf_313 := by
  intro d as S
  unfold zf_313
  split
  · exact zd_noteLines
  · exact Yd_k
theorem ze_314 : YdF zf_314 := by
  intro d as S
  unfold zf_314
  split
  · exact zd_told
  · exact Yd_k
theorem ze_315 : YdF zf_315 := by
  intro d as S
  unfold zf_315
  split
  · exact zd_tell
  · exact Yd_k
theorem ze_316 : YdF zf_316 := by
  intro d as S
  unfold zf_316
  split
  · exact zd_sayValue
  · exact Yd_k
theorem ze_317 : YdF zf_317 := by
  intro d as S
  unfold zf_317
  split
  · exact zd_isFull
  · exact Yd_k
theorem ze_318 : YdF zf_318 := by
  intro d as S
  unfold zf_318
  split
  · exact zd_say
  · exact Yd_k
theorem ze_319 : YdF zf_319 := by
  intro d as S
  unfold zf_319
  split
  · exact zd_sayInt
  · exact Yd_k
theorem ze_320 : YdF zf_320 := by
  intro d as S
  unfold zf_320
  split
  · exact zd_sayByte
  · exact Yd_k
theorem ze_321 : YdF zf_321 := by
  intro d as S
  unfold zf_321
  split
  · exact zd_sayName
  · exact Yd_k
theorem ze_322 : YdF zf_322 := by
  intro d as S
  unfold zf_322
  split
  · exact zd_sayRow
  · exact Yd_k
theorem ze_323 : YdF zf_323 := by
  intro d as S
  unfold zf_323
  split
  · exact zd_sayLabel
  · exact Yd_k
theorem ze_324 : YdF zf_324 := by
  intro d as S
  unfold zf_324
  split
  · exact zd_sayBehind
  · exact Yd_k
theorem ze_325 : YdF zf_325 := by
  intro d as S
  unfold zf_325
  split
  · exact zd_isApplied
  · exact Yd_k
theorem ze_326 : YdF zf_326 := by
  intro d as S
  unfold zf_326
  split
  · exact zd_numberOfCon
  · exact Yd_k
theorem ze_327 : YdF zf_327 := by
  intro d as S
  unfold zf_327
  split
  · exact zd_sayMade
  · exact Yd_k
theorem ze_328 : YdF zf_328 := by
  intro d as S
  unfold zf_328
  split
  · exact zd_toldAs
  · exact Yd_k
theorem ze_329 : YdF zf_329 := by
  intro d as S
  unfold zf_329
  split
  · exact zd_shown
  · exact Yd_k
theorem ze_330 : YdF zf_330 := by
  intro d as S
  unfold zf_330
  split
  · exact zd_sayType
  · exact Yd_k
theorem ze_331 : YdF zf_331 := by
  intro d as S
  unfold zf_331
  split
  · exact zd_sayVariable
  · exact Yd_k
theorem ze_332 : YdF zf_332 := by
  intro d as S
  unfold zf_332
  split
  · exact zd_isTuple
  · exact Yd_k
theorem ze_333 : YdF zf_333 := by
  intro d as S
  unfold zf_333
  split
  · exact zd_sayRowType
  · exact Yd_k
theorem ze_334 : YdF zf_334 := by
  intro d as S
  unfold zf_334
  split
  · exact zd_sayMadeType
  · exact Yd_k
theorem ze_335 : YdF zf_335 := by
  intro d as S
  unfold zf_335
  split
  · exact zd_tellType
  · exact Yd_k
theorem ze_336 : YdF zf_336 := by
  intro d as S
  unfold zf_336
  split
  · exact zd_sayVars
  · exact Yd_k
theorem ze_337 : YdF zf_337 := by
  intro d as S
  unfold zf_337
  split
  · exact zd_tellData
  · exact Yd_k
theorem ze_338 : YdF zf_338 := by
  intro d as S
  unfold zf_338
  split
  · exact zd_listed0
  · exact Yd_k
theorem ze_339 : YdF zf_339 := by
  intro d as S
  unfold zf_339
  split
  · exact zd_letter
  · exact Yd_k
theorem ze_340 : YdF zf_340 := by
  intro d as S
  unfold zf_340
  split
  · exact zd_note
  · exact Yd_k
theorem ze_341 : YdF zf_341 := by
  intro d as S
  unfold zf_341
  split
  · exact zd_out
  · exact Yd_k
theorem ze_342 : YdF zf_342 := by
  intro d as S
  unfold zf_342
  split
  · exact zd_outs
  · exact Yd_k
theorem ze_343 : YdF zf_343 := by
  intro d as S
  unfold zf_343
  split
  · exact zd_keep_2
  · exact Yd_k
theorem ze_344 : YdF zf_344 := by
  intro d as S
  unfold zf_344
  split
  · exact zd_back_2
  · exact Yd_k
theorem ze_345 : YdF zf_345 := by
  intro d as S
  unfold zf_345
  split
  · exact zd_clear
  · exact Yd_k
theorem ze_346 : YdF zf_346 := by
  intro d as S
  unfold zf_346
  split
  · exact zd_feed_p23
  · exact Yd_k
theorem ze_347 : YdF zf_347 := by
  intro d as S
  unfold zf_347
  split
  · exact zd_end_p21
  · exact Yd_k
theorem ze_348 : YdF zf_348 := by
  intro d as S
  unfold zf_348
  split
  · exact zd_type_p42
  · exact Yd_k
theorem ze_349 : YdF zf_349 := by
  intro d as S
  unfold zf_349
  split
  · exact zd_sign0_p50
  · exact Yd_k
theorem ze_350 : YdF zf_350 := by
  intro d as S
  unfold zf_350
  split
  · exact zd_sign0_p98
  · exact Yd_k
theorem ze_351 : YdF zf_351 := by
  intro d as S
  unfold zf_351
  split
  · exact zd_sign0_p211
  · exact Yd_k
theorem ze_352 : YdF zf_352 := by
  intro d as S
  unfold zf_352
  split
  · exact zd_find_p2
  · exact Yd_k
theorem ze_353 : YdF zf_353 := by
  intro d as S
  unfold zf_353
  split
  · exact zd_variableOf_p48
  · exact Yd_k
theorem ze_354 : YdF zf_354 := by
  intro d as S
  unfold zf_354
  split
  · exact zd_fix_p26
  · exact Yd_k
theorem ze_355 : YdF zf_355 := by
  intro d as S
  unfold zf_355
  split
  · exact zd_withField_p26
  · exact Yd_k
theorem ze_356 : YdF zf_356 := by
  intro d as S
  unfold zf_356
  split
  · exact zd_input_p148
  · exact Yd_k
theorem ze_357 : YdF zf_357 := by
  intro d as S
  unfold zf_357
  split
  · exact zd_read_p123
  · exact Yd_k
theorem ze_358 : YdF zf_358 := by
  intro d as S
  unfold zf_358
  split
  · exact zd_gaps_p60
  · exact Yd_k
theorem ze_359 : YdF zf_359 := by
  intro d as S
  unfold zf_359
  split
  · exact zd_isLetter_p12
  · exact Yd_k
theorem ze_360 : YdF zf_360 := by
  intro d as S
  unfold zf_360
  split
  · exact zd_nameAt_text
  · exact Yd_k
theorem ze_361 : YdF zf_361 := by
  intro d as S
  unfold zf_361
  split
  · exact zd_readVariable_p29
  · exact Yd_k
theorem ze_362 : YdF zf_362 := by
  intro d as S
  unfold zf_362
  split
  · exact zd_readInt_p14
  · exact Yd_k
theorem ze_363 : YdF zf_363 := by
  intro d as S
  unfold zf_363
  split
  · exact zd_readString_p14
  · exact Yd_k
theorem ze_364 : YdF zf_364 := by
  intro d as S
  unfold zf_364
  split
  · exact zd_readEscape_p29
  · exact Yd_k
theorem ze_365 : YdF zf_365 := by
  intro d as S
  unfold zf_365
  split
  · exact zd_readEscape_p71
  · exact Yd_k
theorem ze_366 : YdF zf_366 := by
  intro d as S
  unfold zf_366
  split
  · exact zd_readSigns_p65
  · exact Yd_k
theorem ze_367 : YdF zf_367 := by
  intro d as S
  unfold zf_367
  split
  · exact zd_readSigns_p41
  · exact Yd_k
theorem ze_368 : YdF zf_368 := by
  intro d as S
  unfold zf_368
  split
  · exact zd_readOther_p8
  · exact Yd_k
theorem ze_369 : YdF zf_369 := by
  intro d as S
  unfold zf_369
  split
  · exact zd_readOther_p115
  · exact Yd_k
theorem ze_370 : YdF zf_370 := by
  intro d as S
  unfold zf_370
  split
  · exact zd_decs_p10
  · exact Yd_k
theorem ze_371 : YdF zf_371 := by
  intro d as S
  unfold zf_371
  split
  · exact zd_dec_p95
  · exact Yd_k
theorem ze_372 : YdF zf_372 := by
  intro d as S
  unfold zf_372
  split
  · exact zd_local_p25
  · exact Yd_k
theorem ze_373 : YdF zf_373 := by
  intro d as S
  unfold zf_373
  split
  · exact zd_binds_p6
  · exact Yd_k
theorem ze_374 : YdF zf_374 := by
  intro d as S
  unfold zf_374
  split
  · exact zd_pattern_p19
  · exact Yd_k
theorem ze_375 : YdF zf_375 := by
  intro d as S
  unfold zf_375
  split
  · exact zd_infixed_p10
  · exact Yd_k
theorem ze_376 : YdF zf_376 := by
  intro d as S
  unfold zf_376
  split
  · exact zd_push_p15
  · exact Yd_k
theorem ze_377 : YdF zf_377 := by
  intro d as S
  unfold zf_377
  split
  · exact zd_appliedPattern_p41
  · exact Yd_k
theorem ze_378 : YdF zf_378 := by
  intro d as S
  unfold zf_378
  split
  · exact zd_fixOf_p5
  · exact Yd_k
theorem ze_379 : YdF zf_379 := by
  intro d as S
  unfold zf_379
  split
  · exact zd_atomPattern_p50
  · exact Yd_k
theorem ze_380 : YdF zf_380 := by
  intro d as S
  unfold zf_380
  split
  · exact zd_atomPattern_p145
  · exact Yd_k
theorem ze_381 : YdF zf_381 := by
  intro d as S
  unfold zf_381
  split
  · exact zd_patternRow_p27
  · exact Yd_k
theorem ze_382 : YdF zf_382 := by
  intro d as S
  unfold zf_382
  split
  · exact zd_patternField_p18
  · exact Yd_k
theorem ze_383 : YdF zf_383 := by
  intro d as S
  unfold zf_383
  split
  · exact zd_tupleType_p56
  · exact Yd_k
theorem ze_384 : YdF zf_384 := by
  intro d as S
  unfold zf_384
  split
  · exact zd_suffixed_p5
  · exact Yd_k
theorem ze_385 : YdF zf_385 := by
  intro d as S
  unfold zf_385
  split
  · exact zd_atomicType_p74
  · exact Yd_k
theorem ze_386 : YdF zf_386 := by
  intro d as S
  unfold zf_386
  split
  · exact zd_typeRow_p20
  · exact Yd_k
theorem ze_387 : YdF zf_387 := by
  intro d as S
  unfold zf_387
  split
  · exact zd_typeRow_p94
  · exact Yd_k
theorem ze_388 : YdF zf_388 := by
  intro d as S
  unfold zf_388
  split
  · exact zd_patternHeld_p15
  · exact Yd_k
theorem ze_389 : YdF zf_389 := by
  intro d as S
  unfold zf_389
  split
  · exact zd_applications_p5
  · exact Yd_k
theorem ze_390 : YdF zf_390 := by
  intro d as S
  unfold zf_390
  split
  · exact zd_atom_p29
  · exact Yd_k
theorem ze_391 : YdF zf_391 := by
  intro d as S
  unfold zf_391
  split
  · exact zd_atom_p201
  · exact Yd_k
theorem ze_392 : YdF zf_392 := by
  intro d as S
  unfold zf_392
  split
  · exact zd_atom_p155
  · exact Yd_k
theorem ze_393 : YdF zf_393 := by
  intro d as S
  unfold zf_393
  split
  · exact zd_expressionRow_p24
  · exact Yd_k
theorem ze_394 : YdF zf_394 := by
  intro d as S
  unfold zf_394
  split
  · exact zd_expression_p254
  · exact Yd_k
theorem ze_395 : YdF zf_395 := by
  intro d as S
  unfold zf_395
  split
  · exact zd_match_p7
  · exact Yd_k
theorem ze_396 : YdF zf_396 := by
  intro d as S
  unfold zf_396
  split
  · exact zd_orelse_p5
  · exact Yd_k
theorem ze_397 : YdF zf_397 := by
  intro d as S
  unfold zf_397
  split
  · exact zd_andalso_p5
  · exact Yd_k
theorem ze_398 : YdF zf_398 := by
  intro d as S
  unfold zf_398
  split
  · exact zd_typed_p6
  · exact Yd_k
theorem ze_399 : YdF zf_399 := by
  intro d as S
  unfold zf_399
  split
  · exact zd_expressionHeld_p114
  · exact Yd_k
theorem ze_400 : YdF zf_400 := by
  intro d as S
  unfold zf_400
  split
  · exact zd_row_p7
  · exact Yd_k
theorem ze_401 : YdF zf_401 := by
  intro d as S
  unfold zf_401
  split
  · exact zd_let_p25
  · exact Yd_k
theorem ze_402 : YdF zf_402 := by
  intro d as S
  unfold zf_402
  split
  · exact zd_isInfixHere_p17
  · exact Yd_k
theorem ze_403 : YdF zf_403 := by
  intro d as S
  unfold zf_403
  split
  · exact zd_reduce_p88
  · exact Yd_k
theorem ze_404 : YdF zf_404 := by
  intro d as S
  unfold zf_404
  split
  · exact zd_functions_p6
  · exact Yd_k
theorem ze_405 : YdF zf_405 := by
  intro d as S
  unfold zf_405
  split
  · exact zd_clauses_p7
  · exact Yd_k
theorem ze_406 : YdF zf_406 := by
  intro d as S
  unfold zf_406
  split
  · exact zd_clause_p29
  · exact Yd_k
theorem ze_407 : YdF zf_407 := by
  intro d as S
  unfold zf_407
  split
  · exact zd_variables_p50
  · exact Yd_k
theorem ze_408 : YdF zf_408 := by
  intro d as S
  unfold zf_408
  split
  · exact zd_datas_p6
  · exact Yd_k
theorem ze_409 : YdF zf_409 := by
  intro d as S
  unfold zf_409
  split
  · exact zd_constructors_p6
  · exact Yd_k
theorem ze_410 : YdF zf_410 := by
  intro d as S
  unfold zf_410
  split
  · exact zd_exception_p27
  · exact Yd_k
theorem ze_411 : YdF zf_411 := by
  intro d as S
  unfold zf_411
  split
  · exact zd_infixes_p11
  · exact Yd_k
theorem ze_412 : YdF zf_412 := by
  intro d as S
  unfold zf_412
  split
  · exact zd_judgedVal_p42
  · exact Yd_k
theorem ze_413 : YdF zf_413 := by
  intro d as S
  unfold zf_413
  split
  · exact zd_enterVariables_p23
  · exact Yd_k
theorem ze_414 : YdF zf_414 := by
  intro d as S
  unfold zf_414
  split
  · exact zd_lookAll_p2
  · exact Yd_k
theorem ze_415 : YdF zf_415 := by
  intro d as S
  unfold zf_415
  split
  · exact zd_look_p2
  · exact Yd_k
theorem ze_416 : YdF zf_416 := by
  intro d as S
  unfold zf_416
  split
  · exact zd_found_p2
  · exact Yd_k
theorem ze_417 : YdF zf_417 := by
  intro d as S
  unfold zf_417
  split
  · exact zd_patternName_p43
  · exact Yd_k
theorem ze_418 : YdF zf_418 := by
  intro d as S
  unfold zf_418
  split
  · exact zd_valueOf_p5
  · exact Yd_k
theorem ze_419 : YdF zf_419 := by
  intro d as S
  unfold zf_419
  split
  · exact zd_hasArgument_p35
  · exact Yd_k
theorem ze_420 : YdF zf_420 := by
  intro d as S
  unfold zf_420
  split
  · exact zd_meet_p69
  · exact Yd_k
theorem ze_421 : YdF zf_421 := by
  intro d as S
  unfold zf_421
  split
  · exact zd_use_p18
  · exact Yd_k
theorem ze_422 : YdF zf_422 := by
  intro d as S
  unfold zf_422
  split
  · exact zd_isUsed_p7
  · exact Yd_k
theorem ze_423 : YdF zf_423 := by
  intro d as S
  unfold zf_423
  split
  · exact zd_readSign_p31
  · exact Yd_k
theorem ze_424 : YdF zf_424 := by
  intro d as S
  unfold zf_424
  split
  · exact zd_readSign_p134
  · exact Yd_k
theorem ze_425 : YdF zf_425 := by
  intro d as S
  unfold zf_425
  split
  · exact zd_instanceOf_p28
  · exact Yd_k
theorem ze_426 : YdF zf_426 := by
  intro d as S
  unfold zf_426
  split
  · exact zd_enter_p37
  · exact Yd_k
theorem ze_427 : YdF zf_427 := by
  intro d as S
  unfold zf_427
  split
  · exact zd_copied_p9
  · exact Yd_k
theorem ze_428 : YdF zf_428 := by
  intro d as S
  unfold zf_428
  split
  · exact zd_pend_p21
  · exact Yd_k
theorem ze_429 : YdF zf_429 := by
  intro d as S
  unfold zf_429
  split
  · exact zd_patternCon_p48
  · exact Yd_k
theorem ze_430 : YdF zf_430 := by
  intro d as S
  unfold zf_430
  split
  · exact zd_patternCon_p56
  · exact Yd_k
theorem ze_431 : YdF zf_431 := by
  intro d as S
  unfold zf_431
  split
  · exact zd_joined_p18
  · exact Yd_k
theorem ze_432 : YdF zf_432 := by
  intro d as S
  unfold zf_432
  split
  · exact zd_merge_p51
  · exact Yd_k
theorem ze_433 : YdF zf_433 := by
  intro d as S
  unfold zf_433
  split
  · exact zd_mergeRows_p17
  · exact Yd_k
theorem ze_434 : YdF zf_434 := by
  intro d as S
  unfold zf_434
  split
  · exact zd_partOf_p2
  · exact Yd_k
theorem ze_435 : YdF zf_435 := by
  intro d as S
  unfold zf_435
  split
  · exact zd_allFields_p18
  · exact Yd_k
theorem ze_436 : YdF zf_436 := by
  intro d as S
  unfold zf_436
  split
  · exact zd_fieldsFrom_p4
  · exact Yd_k
theorem ze_437 : YdF zf_437 := by
  intro d as S
  unfold zf_437
  split
  · exact zd_mergeMade_p38
  · exact Yd_k
theorem ze_438 : YdF zf_438 := by
  intro d as S
  unfold zf_438
  split
  · exact zd_isEndless_p54
  · exact Yd_k
theorem ze_439 : YdF zf_439 := by
  intro d as S
  unfold zf_439
  split
  · exact zd_admit_p121
  · exact Yd_k
theorem ze_440 : YdF zf_440 := by
  intro d as S
  unfold zf_440
  split
  · exact zd_patternTuple_p12
  · exact Yd_k
theorem ze_441 : YdF zf_441 := by
  intro d as S
  unfold zf_441
  split
  · exact zd_patternParts_p9
  · exact Yd_k
theorem ze_442 : YdF zf_442 := by
  intro d as S
  unfold zf_442
  split
  · exact zd_patternList_p9
  · exact Yd_k
theorem ze_443 : YdF zf_443 := by
  intro d as S
  unfold zf_443
  split
  · exact zd_toldVariable_p7
  · exact Yd_k
theorem ze_444 : YdF zf_444 := by
  intro d as S
  unfold zf_444
  split
  · exact zd_toldName_p7
  · exact Yd_k
theorem ze_445 : YdF zf_445 := by
  intro d as S
  unfold zf_445
  split
  · exact zd_toldOne_p16
  · exact Yd_k
theorem ze_446 : YdF zf_446 := by
  intro d as S
  unfold zf_446
  split
  · exact zd_typeNamed_p5
  · exact Yd_k
theorem ze_447 : YdF zf_447 := by
  intro d as S
  unfold zf_447
  split
  · exact zd_standsFor_p7
  · exact Yd_k
theorem ze_448 : YdF zf_448 := by
  intro d as S
  unfold zf_448
  split
  · exact zd_toldRow_p9
  · exact Yd_k
theorem ze_449 : YdF zf_449 := by
  intro d as S
  unfold zf_449
  split
  · exact zd_patternAs_p49
  · exact Yd_k
theorem ze_450 : YdF zf_450 := by
  intro d as S
  unfold zf_450
  split
  · exact zd_patternAs_p36
  · exact Yd_k
theorem ze_451 : YdF zf_451 := by
  intro d as S
  unfold zf_451
  split
  · exact zd_judgedName_p90
  · exact Yd_k
theorem ze_452 : YdF zf_452 := by
  intro d as S
  unfold zf_452
  split
  · exact zd_judgedRow_p9
  · exact Yd_k
theorem ze_453 : YdF zf_453 := by
  intro d as S
  unfold zf_453
  split
  · exact zd_judgedTuple_p12
  · exact Yd_k
theorem ze_454 : YdF zf_454 := by
  intro d as S
  unfold zf_454
  split
  · exact zd_judgedApplication_p4
  · exact Yd_k
theorem ze_455 : YdF zf_455 := by
  intro d as S
  unfold zf_455
  split
  · exact zd_rules_p12
  · exact Yd_k
theorem ze_456 : YdF zf_456 := by
  intro d as S
  unfold zf_456
  split
  · exact zd_bindPending_p2
  · exact Yd_k
theorem ze_457 : YdF zf_457 := by
  intro d as S
  unfold zf_457
  split
  · exact zd_countOf_p184
  · exact Yd_k
theorem ze_458 : YdF zf_458 := by
  intro d as S
  unfold zf_458
  split
  · exact zd_countOf_p229
  · exact Yd_k
theorem ze_459 : YdF zf_459 := by
  intro d as S
  unfold zf_459
  split
  · exact zd_countOf_p138
  · exact Yd_k
theorem ze_460 : YdF zf_460 := by
  intro d as S
  unfold zf_460
  split
  · exact zd_times_p13
  · exact Yd_k
theorem ze_461 : YdF zf_461 := by
  intro d as S
  unfold zf_461
  split
  · exact zd_endCode_p19
  · exact Yd_k
theorem ze_462 : YdF zf_462 := by
  intro d as S
  unfold zf_462
  split
  · exact zd_judgedOther_p245
  · exact Yd_k
theorem ze_463 : YdF zf_463 := by
  intro d as S
  unfold zf_463
  split
  · exact zd_judgedSequence_p4
  · exact Yd_k
theorem ze_464 : YdF zf_464 := by
  intro d as S
  unfold zf_464
  split
  · exact zd_judgedLet_p40
  · exact Yd_k
theorem ze_465 : YdF zf_465 := by
  intro d as S
  unfold zf_465
  split
  · exact zd_does_p115
  · exact Yd_k
theorem ze_466 : YdF zf_466 := by
  intro d as S
  unfold zf_466
  split
  · exact zd_does_p165
  · exact Yd_k
theorem ze_467 : YdF zf_467 := by
  intro d as S
  unfold zf_467
  split
  · exact zd_isMaker_p21
  · exact Yd_k
theorem ze_468 : YdF zf_468 := by
  intro d as S
  unfold zf_468
  split
  · exact zd_through_p3
  · exact Yd_k
theorem ze_469 : YdF zf_469 := by
  intro d as S
  unfold zf_469
  split
  · exact zd_sizeOf_p40
  · exact Yd_k
theorem ze_470 : YdF zf_470 := by
  intro d as S
  unfold zf_470
  split
  · exact zd_enterSize_p39
  · exact Yd_k
theorem ze_471 : YdF zf_471 := by
  intro d as S
  unfold zf_471
  split
  · exact zd_markRim_p2
  · exact Yd_k
theorem ze_472 : YdF zf_472 := by
  intro d as S
  unfold zf_472
  split
  · exact zd_spreadRim_p38
  · exact Yd_k
theorem ze_473 : YdF zf_473 := by
  intro d as S
  unfold zf_473
  split
  · exact zd_generalise_p35
  · exact Yd_k
theorem ze_474 : YdF zf_474 := by
  intro d as S
  unfold zf_474
  split
  · exact zd_bindLines_p2
  · exact Yd_k
theorem ze_475 : YdF zf_475 := by
  intro d as S
  unfold zf_475
  split
  · exact zd_judgedRec_p48
  · exact Yd_k
theorem ze_476 : YdF zf_476 := by
  intro d as S
  unfold zf_476
  split
  · exact zd_judgedFun_p48
  · exact Yd_k
theorem ze_477 : YdF zf_477 := by
  intro d as S
  unfold zf_477
  split
  · exact zd_judgedFunction_p18
  · exact Yd_k
theorem ze_478 : YdF zf_478 := by
  intro d as S
  unfold zf_478
  split
  · exact zd_judgedClause_p53
  · exact Yd_k
theorem ze_479 : YdF zf_479 := by
  intro d as S
  unfold zf_479
  split
  · exact zd_judgedType_p96
  · exact Yd_k
theorem ze_480 : YdF zf_480 := by
  intro d as S
  unfold zf_480
  split
  · exact zd_listed_p10
  · exact Yd_k
theorem ze_481 : YdF zf_481 := by
  intro d as S
  unfold zf_481
  split
  · exact zd_judgedData_p43
  · exact Yd_k
theorem ze_482 : YdF zf_482 := by
  intro d as S
  unfold zf_482
  split
  · exact zd_judgedCons_p45
  · exact Yd_k
theorem ze_483 : YdF zf_483 := by
  intro d as S
  unfold zf_483
  split
  · exact zd_admits_p35
  · exact Yd_k
theorem ze_484 : YdF zf_484 := by
  intro d as S
  unfold zf_484
  split
  · exact zd_judgedException_p70
  · exact Yd_k
theorem ze_485 : YdF zf_485 := by
  intro d as S
  unfold zf_485
  split
  · exact zd_judgedLocal_p29
  · exact Yd_k
theorem ze_486 : YdF zf_486 := by
  intro d as S
  unfold zf_486
  split
  · exact zd_finish_p4
  · exact Yd_k
theorem ze_487 : YdF zf_487 := by
  intro d as S
  unfold zf_487
  split
  · exact zd_hasUnknown_p35
  · exact Yd_k
theorem ze_488 : YdF zf_488 := by
  intro d as S
  unfold zf_488
  split
  · exact zd_noteAll_p7
  · exact Yd_k
theorem ze_489 : YdF zf_489 := by
  intro d as S
  unfold zf_489
  split
  · exact zd_isUseful_p25
  · exact Yd_k
theorem ze_490 : YdF zf_490 := by
  intro d as S
  unfold zf_490
  split
  · exact zd_usefulHere_p59
  · exact Yd_k
theorem ze_491 : YdF zf_491 := by
  intro d as S
  unfold zf_491
  split
  · exact zd_takesAll_p2
  · exact Yd_k
theorem ze_492 : YdF zf_492 := by
  intro d as S
  unfold zf_492
  split
  · exact zd_bare0_p2
  · exact Yd_k
theorem ze_493 : YdF zf_493 := by
  intro d as S
  unfold zf_493
  split
  · exact zd_headOf_p90
  · exact Yd_k
theorem ze_494 : YdF zf_494 := by
  intro d as S
  unfold zf_494
  split
  · exact zd_rowStep_p7
  · exact Yd_k
theorem ze_495 : YdF zf_495 := by
  intro d as S
  unfold zf_495
  split
  · exact zd_labelsOf_p74
  · exact Yd_k
theorem ze_496 : YdF zf_496 := by
  intro d as S
  unfold zf_496
  split
  · exact zd_labelsOf_p119
  · exact Yd_k
theorem ze_497 : YdF zf_497 := by
  intro d as S
  unfold zf_497
  split
  · exact zd_labelsOf_p15
  · exact Yd_k
theorem ze_498 : YdF zf_498 := by
  intro d as S
  unfold zf_498
  split
  · exact zd_partAt_p118
  · exact Yd_k
theorem ze_499 : YdF zf_499 := by
  intro d as S
  unfold zf_499
  split
  · exact zd_partAt_p149
  · exact Yd_k
theorem ze_500 : YdF zf_500 := by
  intro d as S
  unfold zf_500
  split
  · exact zd_hasLabel_p2
  · exact Yd_k
theorem ze_501 : YdF zf_501 := by
  intro d as S
  unfold zf_501
  split
  · exact zd_narrowed_p21
  · exact Yd_k
theorem ze_502 : YdF zf_502 := by
  intro d as S
  unfold zf_502
  split
  · exact zd_isSameConstant_p19
  · exact Yd_k
theorem ze_503 : YdF zf_503 := by
  intro d as S
  unfold zf_503
  split
  · exact zd_J8_min
  · exact Yd_k
theorem ze_504 : YdF zf_504 := by
  intro d as S
  unfold zf_504
  split
  · exact zd_order0_p17
  · exact Yd_k
theorem ze_505 : YdF zf_505 := by
  intro d as S
  unfold zf_505
  split
  · exact zd_areAllTold_p7
  · exact Yd_k
theorem ze_506 : YdF zf_506 := by
  intro d as S
  unfold zf_506
  split
  · exact zd_usefulByEach_p33
  · exact Yd_k
theorem ze_507 : YdF zf_507 := by
  intro d as S
  unfold zf_507
  split
  · exact zd_slide_p14
  · exact Yd_k
theorem ze_508 : YdF zf_508 := by
  intro d as S
  unfold zf_508
  split
  · exact zd_note0_p5
  · exact Yd_k
theorem ze_509 : YdF zf_509 := by
  intro d as S
  unfold zf_509
  split
  · exact zd_runAll_p24
  · exact Yd_k
theorem ze_510 : YdF zf_510 := by
  intro d as S
  unfold zf_510
  split
  · exact zd_push0_p20
  · exact Yd_k
theorem ze_511 : YdF zf_511 := by
  intro d as S
  unfold zf_511
  split
  · exact zd_work_p2
  · exact Yd_k
theorem ze_512 : YdF zf_512 := by
  intro d as S
  unfold zf_512
  split
  · exact zd_placeIn_p2
  · exact Yd_k
theorem ze_513 : YdF zf_513 := by
  intro d as S
  unfold zf_513
  split
  · exact zd_closure_p38
  · exact Yd_k
theorem ze_514 : YdF zf_514 := by
  intro d as S
  unfold zf_514
  split
  · exact zd_applications0_p2
  · exact Yd_k
theorem ze_515 : YdF zf_515 := by
  intro d as S
  unfold zf_515
  split
  · exact zd_sequence_p23
  · exact Yd_k
theorem ze_516 : YdF zf_516 := by
  intro d as S
  unfold zf_516
  split
  · exact zd_goesOn_2_p58
  · exact Yd_k
theorem ze_517 : YdF zf_517 := by
  intro d as S
  unfold zf_517
  split
  · exact zd_choose_p3
  · exact Yd_k
theorem ze_518 : YdF zf_518 := by
  intro d as S
  unfold zf_518
  split
  · exact zd_matchesRow_p11
  · exact Yd_k
theorem ze_519 : YdF zf_519 := by
  intro d as S
  unfold zf_519
  split
  · exact zd_part_p10
  · exact Yd_k
theorem ze_520 : YdF zf_520 := by
  intro d as S
  unfold zf_520
  split
  · exact zd_matchesTuple_p14
  · exact Yd_k
theorem ze_521 : YdF zf_521 := by
  intro d as S
  unfold zf_521
  split
  · exact zd_matchesList_p11
  · exact Yd_k
theorem ze_522 : YdF zf_522 := by
  intro d as S
  unfold zf_522
  split
  · exact zd_isMadeBy_p82
  · exact Yd_k
theorem ze_523 : YdF zf_523 := by
  intro d as S
  unfold zf_523
  split
  · exact zd_goesOnMore_p79
  · exact Yd_k
theorem ze_524 : YdF zf_524 := by
  intro d as S
  unfold zf_524
  split
  · exact zd_apply_p144
  · exact Yd_k
theorem ze_525 : YdF zf_525 := by
  intro d as S
  unfold zf_525
  split
  · exact zd_firstOf_p319
  · exact Yd_k
theorem ze_526 : YdF zf_526 := by
  intro d as S
  unfold zf_526
  split
  · exact zd_first_p113
  · exact Yd_k
theorem ze_527 : YdF zf_527 := by
  intro d as S
  unfold zf_527
  split
  · exact zd_first_p302
  · exact Yd_k
theorem ze_528 : YdF zf_528 := by
  intro d as S
  unfold zf_528
  split
  · exact zd_first_p281
  · exact Yd_k
theorem ze_529 : YdF zf_529 := by
  intro d as S
  unfold zf_529
  split
  · exact zd_areEqual_p9
  · exact Yd_k
theorem ze_530 : YdF zf_530 := by
  intro d as S
  unfold zf_530
  split
  · exact zd_J19_compare
  · exact Yd_k
theorem ze_531 : YdF zf_531 := by
  intro d as S
  unfold zf_531
  split
  · exact zd_joinedStrings_p69
  · exact Yd_k
theorem ze_532 : YdF zf_532 := by
  intro d as S
  unfold zf_532
  split
  · exact zd_substringOf_p55
  · exact Yd_k
theorem ze_533 : YdF zf_533 := by
  intro d as S
  unfold zf_533
  split
  · exact zd_exploded_p21
  · exact Yd_k
theorem ze_534 : YdF zf_534 := by
  intro d as S
  unfold zf_534
  split
  · exact zd_tuple_p41
  · exact Yd_k
theorem ze_535 : YdF zf_535 := by
  intro d as S
  unfold zf_535
  split
  · exact zd_imploded_p5
  · exact Yd_k
theorem ze_536 : YdF zf_536 := by
  intro d as S
  unfold zf_536
  split
  · exact zd_digitsOf_p12
  · exact Yd_k
theorem ze_537 : YdF zf_537 := by
  intro d as S
  unfold zf_537
  split
  · exact zd_putOut_p20
  · exact Yd_k
theorem ze_538 : YdF zf_538 := by
  intro d as S
  unfold zf_538
  split
  · exact zd_partial_p52
  · exact Yd_k
theorem ze_539 : YdF zf_539 := by
  intro d as S
  unfold zf_539
  split
  · exact zd_J8_max
  · exact Yd_k
theorem ze_540 : YdF zf_540 := by
  intro d as S
  unfold zf_540
  split
  · exact zd_call_p115
  · exact Yd_k
theorem ze_541 : YdF zf_541 := by
  intro d as S
  unfold zf_541
  split
  · exact zd_body_p50
  · exact Yd_k
theorem ze_542 : YdF zf_542 := by
  intro d as S
  unfold zf_542
  split
  · exact zd_rec_p7
  · exact Yd_k
theorem ze_543 : YdF zf_543 := by
  intro d as S
  unfold zf_543
  split
  · exact zd_nameIn_p2
  · exact Yd_k
theorem ze_544 : YdF zf_544 := by
  intro d as S
  unfold zf_544
  split
  · exact zd_tie_p3
  · exact Yd_k
theorem ze_545 : YdF zf_545 := by
  intro d as S
  unfold zf_545
  split
  · exact zd_fun_p7
  · exact Yd_k
theorem ze_546 : YdF zf_546 := by
  intro d as S
  unfold zf_546
  split
  · exact zd_oneMore_p68
  · exact Yd_k
theorem ze_547 : YdF zf_547 := by
  intro d as S
  unfold zf_547
  split
  · exact zd_listOf_p17
  · exact Yd_k
theorem ze_548 : YdF zf_548 := by
  intro d as S
  unfold zf_548
  split
  · exact zd_rowOf_p46
  · exact Yd_k
theorem ze_549 : YdF zf_549 := by
  intro d as S
  unfold zf_549
  split
  · exact zd_shapeOf_p38
  · exact Yd_k
theorem ze_550 : YdF zf_550 := by
  intro d as S
  unfold zf_550
  split
  · exact zd_isAhead_p8
  · exact Yd_k
theorem ze_551 : YdF zf_551 := by
  intro d as S
  unfold zf_551
  split
  · exact zd_isAhead_p46
  · exact Yd_k
theorem ze_552 : YdF zf_552 := by
  intro d as S
  unfold zf_552
  split
  · exact zd_likeShape_p2
  · exact Yd_k
theorem ze_553 : YdF zf_553 := by
  intro d as S
  unfold zf_553
  split
  · exact zd_unwind_p48
  · exact Yd_k
theorem ze_554 : YdF zf_554 := by
  intro d as S
  unfold zf_554
  split
  · exact zd_keepBound_p22
  · exact Yd_k
theorem ze_555 : YdF zf_555 := by
  intro d as S
  unfold zf_555
  split
  · exact zd_keepInfix_p7
  · exact Yd_k
theorem ze_556 : YdF zf_556 := by
  intro d as S
  unfold zf_556
  split
  · exact zd_keepTypes_p7
  · exact Yd_k
theorem ze_557 : YdF zf_557 := by
  intro d as S
  unfold zf_557
  split
  · exact zd_endOf_p32
  · exact Yd_k
theorem ze_558 : YdF zf_558 := by
  intro d as S
  unfold zf_558
  split
  · exact zd_noteLines_p10
  · exact Yd_k
theorem ze_559 : YdF zf_559 := fun _ _ _ => Yd_k
theorem ze_560 : YdF zf_560 := by
  intro d as S
  unfold zf_560
  split
  · exact zd_sayValue_p149
  · exact Yd_k
theorem ze_561 : YdF zf_561 := by
  intro d as S
  unfold zf_561
  split
  · exact zd_sayInt_p12
  · exact Yd_k
theorem ze_562 : YdF zf_562 := by
  intro d as S
  unfold zf_562
  split
  · exact zd_sayByte_p44
  · exact Yd_k
theorem ze_563 : YdF zf_563 := by
  intro d as S
  unfold zf_563
  split
  · exact zd_sayByte_p70
  · exact Yd_k
theorem ze_564 : YdF zf_564 := by
  intro d as S
  unfold zf_564
  split
  · exact zd_sayName_p2
  · exact Yd_k
theorem ze_565 : YdF zf_565 := by
  intro d as S
  unfold zf_565
  split
  · exact zd_sayRow_p23
  · exact Yd_k
theorem ze_566 : YdF zf_566 := by
  intro d as S
  unfold zf_566
  split
  · exact zd_sayBehind_p19
  · exact Yd_k
theorem ze_567 : YdF zf_567 := by
  intro d as S
  unfold zf_567
  split
  · exact zd_isApplied_p25
  · exact Yd_k
theorem ze_568 : YdF zf_568 := by
  intro d as S
  unfold zf_568
  split
  · exact zd_sayMade_p61
  · exact Yd_k
theorem ze_569 : YdF zf_569 := by
  intro d as S
  unfold zf_569
  split
  · exact zd_sayType_p57
  · exact Yd_k
theorem ze_570 : YdF zf_570 := by
  intro d as S
  unfold zf_570
  split
  · exact zd_sayVariable_p2
  · exact Yd_k
theorem ze_571 : YdF zf_571 := by
  intro d as S
  unfold zf_571
  split
  · exact zd_isTuple_p9
  · exact Yd_k
theorem ze_572 : YdF zf_572 := by
  intro d as S
  unfold zf_572
  split
  · exact zd_sayRowType_p31
  · exact Yd_k
theorem ze_573 : YdF zf_573 := by
  intro d as S
  unfold zf_573
  split
  · exact zd_sayMadeType_p42
  · exact Yd_k
theorem ze_574 : YdF zf_574 := by
  intro d as S
  unfold zf_574
  split
  · exact zd_sayMadeType_p99
  · exact Yd_k
theorem ze_575 : YdF zf_575 := by
  intro d as S
  unfold zf_575
  split
  · exact zd_tellType_p49
  · exact Yd_k
theorem ze_576 : YdF zf_576 := by
  intro d as S
  unfold zf_576
  split
  · exact zd_sayVars_p26
  · exact Yd_k
theorem ze_577 : YdF zf_577 := by
  intro d as S
  unfold zf_577
  split
  · exact zd_tellData_p48
  · exact Yd_k
theorem ze_578 : YdF zf_578 := by
  intro d as S
  unfold zf_578
  split
  · exact zd_listed0_p7
  · exact Yd_k
theorem ze_579 : YdF zf_579 := by
  intro d as S
  unfold zf_579
  split
  · exact zd_letter_p34
  · exact Yd_k
theorem ze_580 : YdF zf_580 := by
  intro d as S
  unfold zf_580
  split
  · exact zd_feed_p76
  · exact Yd_k
theorem ze_581 : YdF zf_581 := by
  intro d as S
  unfold zf_581
  split
  · exact zd_sign0_p151
  · exact Yd_k
theorem ze_582 : YdF zf_582 := by
  intro d as S
  unfold zf_582
  split
  · exact zd_sign0_p235
  · exact Yd_k
theorem ze_583 : YdF zf_583 := by
  intro d as S
  unfold zf_583
  split
  · exact zd_find_p24
  · exact Yd_k
theorem ze_584 : YdF zf_584 := by
  intro d as S
  unfold zf_584
  split
  · exact zd_withField_p65
  · exact Yd_k
theorem ze_585 : YdF zf_585 := by
  intro d as S
  unfold zf_585
  split
  · exact zd_read_p161
  · exact Yd_k
theorem ze_586 : YdF zf_586 := by
  intro d as S
  unfold zf_586
  split
  · exact zd_gaps_p113
  · exact Yd_k
theorem ze_587 : YdF zf_587 := by
  intro d as S
  unfold zf_587
  split
  · exact zd_nameAt_text_p6
  · exact Yd_k
theorem ze_588 : YdF zf_588 := by
  intro d as S
  unfold zf_588
  split
  · exact zd_readVariable_p49
  · exact Yd_k
theorem ze_589 : YdF zf_589 := by
  intro d as S
  unfold zf_589
  split
  · exact zd_readInt_p31
  · exact Yd_k
theorem ze_590 : YdF zf_590 := by
  intro d as S
  unfold zf_590
  split
  · exact zd_readString_p31
  · exact Yd_k
theorem ze_591 : YdF zf_591 := by
  intro d as S
  unfold zf_591
  split
  · exact zd_readEscape_p53
  · exact Yd_k
theorem ze_592 : YdF zf_592 := by
  intro d as S
  unfold zf_592
  split
  · exact zd_readEscape_p97
  · exact Yd_k
theorem ze_593 : YdF zf_593 := by
  intro d as S
  unfold zf_593
  split
  · exact zd_decs_p57
  · exact Yd_k
theorem ze_594 : YdF zf_594 := by
  intro d as S
  unfold zf_594
  split
  · exact zd_local_p48
  · exact Yd_k
theorem ze_595 : YdF zf_595 := by
  intro d as S
  unfold zf_595
  split
  · exact zd_binds_p73
  · exact Yd_k
theorem ze_596 : YdF zf_596 := by
  intro d as S
  unfold zf_596
  split
  · exact zd_pattern_p28
  · exact Yd_k
theorem ze_597 : YdF zf_597 := by
  intro d as S
  unfold zf_597
  split
  · exact zd_infixed_p239
  · exact Yd_k
theorem ze_598 : YdF zf_598 := by
  intro d as S
  unfold zf_598
  split
  · exact zd_infixed_p30
  · exact Yd_k
theorem ze_599 : YdF zf_599 := by
  intro d as S
  unfold zf_599
  split
  · exact zd_patternRow_p87
  · exact Yd_k
theorem ze_600 : YdF zf_600 := by
  intro d as S
  unfold zf_600
  split
  · exact zd_patternRow_p73
  · exact Yd_k
theorem ze_601 : YdF zf_601 := by
  intro d as S
  unfold zf_601
  split
  · exact zd_patternField_p75
  · exact Yd_k
theorem ze_602 : YdF zf_602 := by
  intro d as S
  unfold zf_602
  split
  · exact zd_tupleType_p131
  · exact Yd_k
theorem ze_603 : YdF zf_603 := by
  intro d as S
  unfold zf_603
  split
  · exact zd_atomicType_p117
  · exact Yd_k
theorem ze_604 : YdF zf_604 := by
  intro d as S
  unfold zf_604
  split
  · exact zd_typeRow_p80
  · exact Yd_k
theorem ze_605 : YdF zf_605 := by
  intro d as S
  unfold zf_605
  split
  · exact zd_patternHeld_p40
  · exact Yd_k
theorem ze_606 : YdF zf_606 := by
  intro d as S
  unfold zf_606
  split
  · exact zd_expressionRow_p84
  · exact Yd_k
theorem ze_607 : YdF zf_607 := by
  intro d as S
  unfold zf_607
  split
  · exact zd_orelse_p36
  · exact Yd_k
theorem ze_608 : YdF zf_608 := by
  intro d as S
  unfold zf_608
  split
  · exact zd_andalso_p35
  · exact Yd_k
theorem ze_609 : YdF zf_609 := by
  intro d as S
  unfold zf_609
  split
  · exact zd_functions_p66
  · exact Yd_k
theorem ze_610 : YdF zf_610 := by
  intro d as S
  unfold zf_610
  split
  · exact zd_clause_p67
  · exact Yd_k
theorem ze_611 : YdF zf_611 := by
  intro d as S
  unfold zf_611
  split
  · exact zd_datas_p73
  · exact Yd_k
theorem ze_612 : YdF zf_612 := by
  intro d as S
  unfold zf_612
  split
  · exact zd_constructors_p40
  · exact Yd_k
theorem ze_613 : YdF zf_613 := by
  intro d as S
  unfold zf_613
  split
  · exact zd_exception_p68
  · exact Yd_k
theorem ze_614 : YdF zf_614 := by
  intro d as S
  unfold zf_614
  split
  · exact zd_infixes_p63
  · exact Yd_k
theorem ze_615 : YdF zf_615 := by
  intro d as S
  unfold zf_615
  split
  · exact zd_judgedVal_p115
  · exact Yd_k
theorem ze_616 : YdF zf_616 := by
  intro d as S
  unfold zf_616
  split
  · exact zd_enterVariables_p37
  · exact Yd_k
theorem ze_617 : YdF zf_617 := by
  intro d as S
  unfold zf_617
  split
  · exact zd_look_p48
  · exact Yd_k
theorem ze_618 : YdF zf_618 := by
  intro d as S
  unfold zf_618
  split
  · exact zd_found_p31
  · exact Yd_k
theorem ze_619 : YdF zf_619 := by
  intro d as S
  unfold zf_619
  split
  · exact zd_patternName_p81
  · exact Yd_k
theorem ze_620 : YdF zf_620 := by
  intro d as S
  unfold zf_620
  split
  · exact zd_patternName_p68
  · exact Yd_k
theorem ze_621 : YdF zf_621 := by
  intro d as S
  unfold zf_621
  split
  · exact zd_readSign_p109
  · exact Yd_k
theorem ze_622 : YdF zf_622 := by
  intro d as S
  unfold zf_622
  split
  · exact zd_readSign_p153
  · exact Yd_k
theorem ze_623 : YdF zf_623 := by
  intro d as S
  unfold zf_623
  split
  · exact zd_copied_p62
  · exact Yd_k
theorem ze_624 : YdF zf_624 := by
  intro d as S
  unfold zf_624
  split
  · exact zd_copied_p51
  · exact Yd_k
theorem ze_625 : YdF zf_625 := by
  intro d as S
  unfold zf_625
  split
  · exact zd_joined_p73
  · exact Yd_k
theorem ze_626 : YdF zf_626 := by
  intro d as S
  unfold zf_626
  split
  · exact zd_merge_p69
  · exact Yd_k
theorem ze_627 : YdF zf_627 := by
  intro d as S
  unfold zf_627
  split
  · exact zd_mergeRows_p45
  · exact Yd_k
theorem ze_628 : YdF zf_628 := by
  intro d as S
  unfold zf_628
  split
  · exact zd_allFields_p28
  · exact Yd_k
theorem ze_629 : YdF zf_629 := by
  intro d as S
  unfold zf_629
  split
  · exact zd_isEndless_p67
  · exact Yd_k
theorem ze_630 : YdF zf_630 := by
  intro d as S
  unfold zf_630
  split
  · exact zd_admit_p152
  · exact Yd_k
theorem ze_631 : YdF zf_631 := by
  intro d as S
  unfold zf_631
  split
  · exact zd_patternParts_p120
  · exact Yd_k
theorem ze_632 : YdF zf_632 := by
  intro d as S
  unfold zf_632
  split
  · exact zd_toldVariable_p24
  · exact Yd_k
theorem ze_633 : YdF zf_633 := by
  intro d as S
  unfold zf_633
  split
  · exact zd_toldName_p86
  · exact Yd_k
theorem ze_634 : YdF zf_634 := by
  intro d as S
  unfold zf_634
  split
  · exact zd_toldOne_p40
  · exact Yd_k
theorem ze_635 : YdF zf_635 := by
  intro d as S
  unfold zf_635
  split
  · exact zd_patternAs_p114
  · exact Yd_k
theorem ze_636 : YdF zf_636 := by
  intro d as S
  unfold zf_636
  split
  · exact zd_judgedApplication_p40
  · exact Yd_k
theorem ze_637 : YdF zf_637 := by
  intro d as S
  unfold zf_637
  split
  · exact zd_rules_p115
  · exact Yd_k
theorem ze_638 : YdF zf_638 := by
  intro d as S
  unfold zf_638
  split
  · exact zd_does_p142
  · exact Yd_k
theorem ze_639 : YdF zf_639 := by
  intro d as S
  unfold zf_639
  split
  · exact zd_does_p189
  · exact Yd_k
theorem ze_640 : YdF zf_640 := by
  intro d as S
  unfold zf_640
  split
  · exact zd_through_p60
  · exact Yd_k
theorem ze_641 : YdF zf_641 := by
  intro d as S
  unfold zf_641
  split
  · exact zd_sizeOf_p138
  · exact Yd_k
theorem ze_642 : YdF zf_642 := by
  intro d as S
  unfold zf_642
  split
  · exact zd_markRim_p25
  · exact Yd_k
theorem ze_643 : YdF zf_643 := by
  intro d as S
  unfold zf_643
  split
  · exact zd_spreadRim_p89
  · exact Yd_k
theorem ze_644 : YdF zf_644 := by
  intro d as S
  unfold zf_644
  split
  · exact zd_generalise_p94
  · exact Yd_k
theorem ze_645 : YdF zf_645 := by
  intro d as S
  unfold zf_645
  split
  · exact zd_judgedRec_p209
  · exact Yd_k
theorem ze_646 : YdF zf_646 := by
  intro d as S
  unfold zf_646
  split
  · exact zd_judgedRec_p63
  · exact Yd_k
theorem ze_647 : YdF zf_647 := by
  intro d as S
  unfold zf_647
  split
  · exact zd_judgedFun_p133
  · exact Yd_k
theorem ze_648 : YdF zf_648 := by
  intro d as S
  unfold zf_648
  split
  · exact zd_judgedFunction_p128
  · exact Yd_k
theorem ze_649 : YdF zf_649 := by
  intro d as S
  unfold zf_649
  split
  · exact zd_judgedClause_p135
  · exact Yd_k
theorem ze_650 : YdF zf_650 := by
  intro d as S
  unfold zf_650
  split
  · exact zd_lengthOf_fNext
  · exact Yd_k
theorem ze_651 : YdF zf_651 := by
  intro d as S
  unfold zf_651
  split
  · exact zd_listed_p22
  · exact Yd_k
theorem ze_652 : YdF zf_652 := by
  intro d as S
  unfold zf_652
  split
  · exact zd_judgedData_p212
  · exact Yd_k
theorem ze_653 : YdF zf_653 := by
  intro d as S
  unfold zf_653
  split
  · exact zd_judgedData_p53
  · exact Yd_k
theorem ze_654 : YdF zf_654 := by
  intro d as S
  unfold zf_654
  split
  · exact zd_judgedCons_p87
  · exact Yd_k
theorem ze_655 : YdF zf_655 := by
  intro d as S
  unfold zf_655
  split
  · exact zd_admits_p78
  · exact Yd_k
theorem ze_656 : YdF zf_656 := by
  intro d as S
  unfold zf_656
  split
  · exact zd_judgedException_p104
  · exact Yd_k
theorem ze_657 : YdF zf_657 := by
  intro d as S
  unfold zf_657
  split
  · exact zd_judgedLocal_p79
  · exact Yd_k
theorem ze_658 : YdF zf_658 := by
  intro d as S
  unfold zf_658
  split
  · exact zd_finish_p55
  · exact Yd_k
theorem ze_659 : YdF zf_659 := by
  intro d as S
  unfold zf_659
  split
  · exact zd_finish_p120
  · exact Yd_k
theorem ze_660 : YdF zf_660 := by
  intro d as S
  unfold zf_660
  split
  · exact zd_hasUnknown_p74
  · exact Yd_k
theorem ze_661 : YdF zf_661 := by
  intro d as S
  unfold zf_661
  split
  · exact zd_noteAll_p224
  · exact Yd_k
theorem ze_662 : YdF zf_662 := by
  intro d as S
  unfold zf_662
  split
  · exact zd_lengthOf_next
  · exact Yd_k
theorem ze_663 : YdF zf_663 := by
  intro d as S
  unfold zf_663
  split
  · exact zd_noteAll_p96
  · exact Yd_k
theorem ze_664 : YdF zf_664 := by
  intro d as S
  unfold zf_664
  split
  · exact zd_noteAll_p189
  · exact Yd_k
theorem ze_665 : YdF zf_665 := by
  intro d as S
  unfold zf_665
  split
  · exact zd_isUseful_p61
  · exact Yd_k
theorem ze_666 : YdF zf_666 := by
  intro d as S
  unfold zf_666
  split
  · exact zd_usefulHere_p110
  · exact Yd_k
theorem ze_667 : YdF zf_667 := by
  intro d as S
  unfold zf_667
  split
  · exact zd_takesAll_p14
  · exact Yd_k
theorem ze_668 : YdF zf_668 := by
  intro d as S
  unfold zf_668
  split
  · exact zd_bare0_p26
  · exact Yd_k
theorem ze_669 : YdF zf_669 := by
  intro d as S
  unfold zf_669
  split
  · exact zd_rowStep_p64
  · exact Yd_k
theorem ze_670 : YdF zf_670 := by
  intro d as S
  unfold zf_670
  split
  · exact zd_labelsOf_p96
  · exact Yd_k
theorem ze_671 : YdF zf_671 := by
  intro d as S
  unfold zf_671
  split
  · exact zd_narrowed_p90
  · exact Yd_k
theorem ze_672 : YdF zf_672 := by
  intro d as S
  unfold zf_672
  split
  · exact zd_areAllTold_p29
  · exact Yd_k
theorem ze_673 : YdF zf_673 := by
  intro d as S
  unfold zf_673
  split
  · exact zd_usefulByEach_p98
  · exact Yd_k
theorem ze_674 : YdF zf_674 := by
  intro d as S
  unfold zf_674
  split
  · exact zd_note0_p79
  · exact Yd_k
theorem ze_675 : YdF zf_675 := by
  intro d as S
  unfold zf_675
  split
  · exact zd_note0_p45
  · exact Yd_k
theorem ze_676 : YdF zf_676 := by
  intro d as S
  unfold zf_676
  split
  · exact zd_runAll_p46
  · exact Yd_k
theorem ze_677 : YdF zf_677 := by
  intro d as S
  unfold zf_677
  split
  · exact zd_goesOn_2_p224
  · exact Yd_k
theorem ze_678 : YdF zf_678 := by
  intro d as S
  unfold zf_678
  split
  · exact zd_areEqual_p101
  · exact Yd_k
theorem ze_679 : YdF zf_679 := by
  intro d as S
  unfold zf_679
  split
  · exact zd_joinedStrings_p101
  · exact Yd_k
theorem ze_680 : YdF zf_680 := by
  intro d as S
  unfold zf_680
  split
  · exact zd_imploded_p70
  · exact Yd_k
theorem ze_681 : YdF zf_681 := by
  intro d as S
  unfold zf_681
  split
  · exact zd_digitsOf_p29
  · exact Yd_k
theorem ze_682 : YdF zf_682 := by
  intro d as S
  unfold zf_682
  split
  · exact zd_call_p144
  · exact Yd_k
theorem ze_683 : YdF zf_683 := by
  intro d as S
  unfold zf_683
  split
  · exact zd_body_p68
  · exact Yd_k
theorem ze_684 : YdF zf_684 := by
  intro d as S
  unfold zf_684
  split
  · exact zd_rec_p68
  · exact Yd_k
theorem ze_685 : YdF zf_685 := by
  intro d as S
  unfold zf_685
  split
  · exact zd_fun_p59
  · exact Yd_k
theorem ze_686 : YdF zf_686 := by
  intro d as S
  unfold zf_686
  split
  · exact zd_rowOf_p58
  · exact Yd_k
theorem ze_687 : YdF zf_687 := by
  intro d as S
  unfold zf_687
  split
  · exact zd_shapeOf_p51
  · exact Yd_k
theorem ze_688 : YdF zf_688 := by
  intro d as S
  unfold zf_688
  split
  · exact zd_likeShape_p29
  · exact Yd_k
theorem ze_689 : YdF zf_689 := by
  intro d as S
  unfold zf_689
  split
  · exact zd_keepBound_p150
  · exact Yd_k
theorem ze_690 : YdF zf_690 := by
  intro d as S
  unfold zf_690
  split
  · exact zd_keepBound_p68
  · exact Yd_k
theorem ze_691 : YdF zf_691 := by
  intro d as S
  unfold zf_691
  split
  · exact zd_keepInfix_p118
  · exact Yd_k
theorem ze_692 : YdF zf_692 := by
  intro d as S
  unfold zf_692
  split
  · exact zd_keepInfix_p22
  · exact Yd_k
theorem ze_693 : YdF zf_693 := by
  intro d as S
  unfold zf_693
  split
  · exact zd_keepTypes_p46
  · exact Yd_k
theorem ze_694 : YdF zf_694 := by
  intro d as S
  unfold zf_694
  split
  · exact zd_endOf_p58
  · exact Yd_k
theorem ze_695 : YdF zf_695 := by
  intro d as S
  unfold zf_695
  split
  · exact zd_noteLines_p52
  · exact Yd_k
theorem ze_696 : YdF zf_696 := by
  intro d as S
  unfold zf_696
  split
  · exact zd_sayInt_p28
  · exact Yd_k
theorem ze_697 : YdF zf_697 := by
  intro d as S
  unfold zf_697
  split
  · exact zd_sayRow_p84
  · exact Yd_k
theorem ze_698 : YdF zf_698 := by
  intro d as S
  unfold zf_698
  split
  · exact zd_sayBehind_p38
  · exact Yd_k
theorem ze_699 : YdF zf_699 := by
  intro d as S
  unfold zf_699
  split
  · exact zd_sayMade_p91
  · exact Yd_k
theorem ze_700 : YdF zf_700 := by
  intro d as S
  unfold zf_700
  split
  · exact zd_sayType_p82
  · exact Yd_k
theorem ze_701 : YdF zf_701 := by
  intro d as S
  unfold zf_701
  split
  · exact zd_sayVariable_p26
  · exact Yd_k
theorem ze_702 : YdF zf_702 := by
  intro d as S
  unfold zf_702
  split
  · exact zd_isTuple_p41
  · exact Yd_k
theorem ze_703 : YdF zf_703 := by
  intro d as S
  unfold zf_703
  split
  · exact zd_sayRowType_p47
  · exact Yd_k
theorem ze_704 : YdF zf_704 := by
  intro d as S
  unfold zf_704
  split
  · exact zd_sayMadeType_p55
  · exact Yd_k
theorem ze_705 : YdF zf_705 := by
  intro d as S
  unfold zf_705
  split
  · exact zd_sayVars_p39
  · exact Yd_k
theorem ze_706 : YdF zf_706 := by
  intro d as S
  unfold zf_706
  split
  · exact zd_sign0_p260
  · exact Yd_k
theorem ze_707 : YdF zf_707 := by
  intro d as S
  unfold zf_707
  split
  · exact zd_gaps_p145
  · exact Yd_k
theorem ze_708 : YdF zf_708 := by
  intro d as S
  unfold zf_708
  split
  · exact zd_nameAt_text_p45
  · exact Yd_k
theorem ze_709 : YdF zf_709 := by
  intro d as S
  unfold zf_709
  split
  · exact zd_readInt_p96
  · exact Yd_k
theorem ze_710 : YdF zf_710 := by
  intro d as S
  unfold zf_710
  split
  · exact zd_readInt_p68
  · exact Yd_k
theorem ze_711 : YdF zf_711 := by
  intro d as S
  unfold zf_711
  split
  · exact zd_readString_p159
  · exact Yd_k
theorem ze_712 : YdF zf_712 := by
  intro d as S
  unfold zf_712
  split
  · exact zd_readEscape_p131
  · exact Yd_k
theorem ze_713 : YdF zf_713 := by
  intro d as S
  unfold zf_713
  split
  · exact zd_infixed_p54
  · exact Yd_k
theorem ze_714 : YdF zf_714 := by
  intro d as S
  unfold zf_714
  split
  · exact zd_patternField_p137
  · exact Yd_k
theorem ze_715 : YdF zf_715 := by
  intro d as S
  unfold zf_715
  split
  · exact zd_patternHeld_p73
  · exact Yd_k
theorem ze_716 : YdF zf_716 := by
  intro d as S
  unfold zf_716
  split
  · exact zd_clause_p191
  · exact Yd_k
theorem ze_717 : YdF zf_717 := by
  intro d as S
  unfold zf_717
  split
  · exact zd_clause_p89
  · exact Yd_k
theorem ze_718 : YdF zf_718 := by
  intro d as S
  unfold zf_718
  split
  · exact zd_constructors_p66
  · exact Yd_k
theorem ze_719 : YdF zf_719 := by
  intro d as S
  unfold zf_719
  split
  · exact zd_infixes_p76
  · exact Yd_k
theorem ze_720 : YdF zf_720 := by
  intro d as S
  unfold zf_720
  split
  · exact zd_found_p85
  · exact Yd_k
theorem ze_721 : YdF zf_721 := by
  intro d as S
  unfold zf_721
  split
  · exact zd_readSign_p164
  · exact Yd_k
theorem ze_722 : YdF zf_722 := by
  intro d as S
  unfold zf_722
  split
  · exact zd_copied_p81
  · exact Yd_k
theorem ze_723 : YdF zf_723 := by
  intro d as S
  unfold zf_723
  split
  · exact zd_merge_p83
  · exact Yd_k
theorem ze_724 : YdF zf_724 := by
  intro d as S
  unfold zf_724
  split
  · exact zd_mergeRows_p99
  · exact Yd_k
theorem ze_725 : YdF zf_725 := by
  intro d as S
  unfold zf_725
  split
  · exact zd_allFields_p48
  · exact Yd_k
theorem ze_726 : YdF zf_726 := by
  intro d as S
  unfold zf_726
  split
  · exact zd_isEndless_p191
  · exact Yd_k
theorem ze_727 : YdF zf_727 := by
  intro d as S
  unfold zf_727
  split
  · exact zd_toldVariable_p63
  · exact Yd_k
theorem ze_728 : YdF zf_728 := by
  intro d as S
  unfold zf_728
  split
  · exact zd_toldOne_p66
  · exact Yd_k
theorem ze_729 : YdF zf_729 := by
  intro d as S
  unfold zf_729
  split
  · exact zd_judgedApplication_p51
  · exact Yd_k
theorem ze_730 : YdF zf_730 := by
  intro d as S
  unfold zf_730
  split
  · exact zd_rules_p178
  · exact Yd_k
theorem ze_731 : YdF zf_731 := by
  intro d as S
  unfold zf_731
  split
  · exact zd_through_p102
  · exact Yd_k
theorem ze_732 : YdF zf_732 := by
  intro d as S
  unfold zf_732
  split
  · exact zd_through_p135
  · exact Yd_k
theorem ze_733 : YdF zf_733 := by
  intro d as S
  unfold zf_733
  split
  · exact zd_markRim_p70
  · exact Yd_k
theorem ze_734 : YdF zf_734 := by
  intro d as S
  unfold zf_734
  split
  · exact zd_generalise_p128
  · exact Yd_k
theorem ze_735 : YdF zf_735 := by
  intro d as S
  unfold zf_735
  split
  · exact zd_judgedRec_p266
  · exact Yd_k
theorem ze_736 : YdF zf_736 := by
  intro d as S
  unfold zf_736
  split
  · exact zd_judgedFun_p194
  · exact Yd_k
theorem ze_737 : YdF zf_737 := by
  intro d as S
  unfold zf_737
  split
  · exact zd_judgedFunction_p274
  · exact Yd_k
theorem ze_738 : YdF zf_738 := by
  intro d as S
  unfold zf_738
  split
  · exact zd_judgedFunction_p161
  · exact Yd_k
theorem ze_739 : YdF zf_739 := by
  intro d as S
  unfold zf_739
  split
  · exact zd_judgedClause_p249
  · exact Yd_k
theorem ze_740 : YdF zf_740 := by
  intro d as S
  unfold zf_740
  split
  · exact zd_judgedClause_p196
  · exact Yd_k
theorem ze_741 : YdF zf_741 := by
  intro d as S
  unfold zf_741
  split
  · exact zd_lengthOf_fNext_p4
  · exact Yd_k
theorem ze_742 : YdF zf_742 := by
  intro d as S
  unfold zf_742
  split
  · exact zd_listed_p97
  · exact Yd_k
theorem ze_743 : YdF zf_743 := by
  intro d as S
  unfold zf_743
  split
  · exact zd_judgedData_p277
  · exact Yd_k
theorem ze_744 : YdF zf_744 := by
  intro d as S
  unfold zf_744
  split
  · exact zd_judgedCons_p180
  · exact Yd_k
theorem ze_745 : YdF zf_745 := by
  intro d as S
  unfold zf_745
  split
  · exact zd_admits_p100
  · exact Yd_k
theorem ze_746 : YdF zf_746 := by
  intro d as S
  unfold zf_746
  split
  · exact zd_judgedException_p144
  · exact Yd_k
theorem ze_747 : YdF zf_747 := by
  intro d as S
  unfold zf_747
  split
  · exact zd_linked_vBefore
  · exact Yd_k
theorem ze_748 : YdF zf_748 := by
  intro d as S
  unfold zf_748
  split
  · exact zd_linked_tBefore
  · exact Yd_k
theorem ze_749 : YdF zf_749 := by
  intro d as S
  unfold zf_749
  split
  · exact zd_finish_p92
  · exact Yd_k
theorem ze_750 : YdF zf_750 := by
  intro d as S
  unfold zf_750
  split
  · exact zd_finish_p183
  · exact Yd_k
theorem ze_751 : YdF zf_751 := by
  intro d as S
  unfold zf_751
  split
  · exact zd_hasUnknown_p108
  · exact Yd_k
theorem ze_752 : YdF zf_752 := by
  intro d as S
  unfold zf_752
  split
  · exact zd_noteAll_p305
  · exact Yd_k
theorem ze_753 : YdF zf_753 := by
  intro d as S
  unfold zf_753
  split
  · exact zd_noteAll_p241
  · exact Yd_k
theorem ze_754 : YdF zf_754 := by
  intro d as S
  unfold zf_754
  split
  · exact zd_lengthOf_next_p4
  · exact Yd_k
theorem ze_755 : YdF zf_755 := by
  intro d as S
  unfold zf_755
  split
  · exact zd_noteAll_p114
  · exact Yd_k
theorem ze_756 : YdF zf_756 := by
  intro d as S
  unfold zf_756
  split
  · exact zd_usefulHere_p172
  · exact Yd_k
theorem ze_757 : YdF zf_757 := by
  intro d as S
  unfold zf_757
  split
  · exact zd_rowStep_p101
  · exact Yd_k
theorem ze_758 : YdF zf_758 := by
  intro d as S
  unfold zf_758
  split
  · exact zd_narrowed_p130
  · exact Yd_k
theorem ze_759 : YdF zf_759 := by
  intro d as S
  unfold zf_759
  split
  · exact zd_runAll_p73
  · exact Yd_k
theorem ze_760 : YdF zf_760 := by
  intro d as S
  unfold zf_760
  split
  · exact zd_areEqual_p149
  · exact Yd_k
theorem ze_761 : YdF zf_761 := by
  intro d as S
  unfold zf_761
  split
  · exact zd_areEqual_p226
  · exact Yd_k
theorem ze_762 : YdF zf_762 := by
  intro d as S
  unfold zf_762
  split
  · exact zd_digitsOf_p87
  · exact Yd_k
theorem ze_763 : YdF zf_763 := by
  intro d as S
  unfold zf_763
  split
  · exact zd_body_p113
  · exact Yd_k
theorem ze_764 : YdF zf_764 := by
  intro d as S
  unfold zf_764
  split
  · exact zd_rowOf_p112
  · exact Yd_k
theorem ze_765 : YdF zf_765 := by
  intro d as S
  unfold zf_765
  split
  · exact zd_rowOf_p75
  · exact Yd_k
theorem ze_766 : YdF zf_766 := by
  intro d as S
  unfold zf_766
  split
  · exact zd_shapeOf_p104
  · exact Yd_k
theorem ze_767 : YdF zf_767 := by
  intro d as S
  unfold zf_767
  split
  · exact zd_keepBound_p273
  · exact Yd_k
theorem ze_768 : YdF zf_768 := by
  intro d as S
  unfold zf_768
  split
  · exact zd_keepBound_p96
  · exact Yd_k
theorem ze_769 : YdF zf_769 := by
  intro d as S
  unfold zf_769
  split
  · exact zd_keepInfix_p69
  · exact Yd_k
theorem ze_770 : YdF zf_770 := by
  intro d as S
  unfold zf_770
  split
  · exact zd_keepTypes_p98
  · exact Yd_k
theorem ze_771 : YdF zf_771 := by
  intro d as S
  unfold zf_771
  split
  · exact zd_noteLines_p116
  · exact Yd_k
theorem ze_772 : YdF zf_772 := by
  intro d as S
  unfold zf_772
  split
  · exact zd_sayInt_p50
  · exact Yd_k
theorem ze_773 : YdF zf_773 := by
  intro d as S
  unfold zf_773
  split
  · exact zd_sayRow_p102
  · exact Yd_k
theorem ze_774 : YdF zf_774 := by
  intro d as S
  unfold zf_774
  split
  · exact zd_sayType_p93
  · exact Yd_k
theorem ze_775 : YdF zf_775 := by
  intro d as S
  unfold zf_775
  split
  · exact zd_sayType_p108
  · exact Yd_k
theorem ze_776 : YdF zf_776 := by
  intro d as S
  unfold zf_776
  split
  · exact zd_sayVariable_p54
  · exact Yd_k
theorem ze_777 : YdF zf_777 := by
  intro d as S
  unfold zf_777
  split
  · exact zd_sayRowType_p128
  · exact Yd_k
theorem ze_778 : YdF zf_778 := by
  intro d as S
  unfold zf_778
  split
  · exact zd_sayRowType_p76
  · exact Yd_k
theorem ze_779 : YdF zf_779 := by
  intro d as S
  unfold zf_779
  split
  · exact zd_sayMadeType_p71
  · exact Yd_k
theorem ze_780 : YdF zf_780 := by
  intro d as S
  unfold zf_780
  split
  · exact zd_sayVars_p55
  · exact Yd_k
theorem ze_781 : YdF zf_781 := by
  intro d as S
  unfold zf_781
  split
  · exact zd_sign0_p304
  · exact Yd_k
theorem ze_782 : YdF zf_782 := by
  intro d as S
  unfold zf_782
  split
  · exact zd_gaps_p174
  · exact Yd_k
theorem ze_783 : YdF zf_783 := by
  intro d as S
  unfold zf_783
  split
  · exact zd_nameAt_text_p193
  · exact Yd_k
theorem ze_784 : YdF zf_784 := by
  intro d as S
  unfold zf_784
  split
  · exact zd_nameAt_text_p72
  · exact Yd_k
theorem ze_785 : YdF zf_785 := by
  intro d as S
  unfold zf_785
  split
  · exact zd_readInt_p121
  · exact Yd_k
theorem ze_786 : YdF zf_786 := by
  intro d as S
  unfold zf_786
  split
  · exact zd_readString_p180
  · exact Yd_k
theorem ze_787 : YdF zf_787 := by
  intro d as S
  unfold zf_787
  split
  · exact zd_infixed_p105
  · exact Yd_k
theorem ze_788 : YdF zf_788 := by
  intro d as S
  unfold zf_788
  split
  · exact zd_clause_p208
  · exact Yd_k
theorem ze_789 : YdF zf_789 := by
  intro d as S
  unfold zf_789
  split
  · exact zd_clause_p107
  · exact Yd_k
theorem ze_790 : YdF zf_790 := by
  intro d as S
  unfold zf_790
  split
  · exact zd_constructors_p92
  · exact Yd_k
theorem ze_791 : YdF zf_791 := by
  intro d as S
  unfold zf_791
  split
  · exact zd_readSign_p200
  · exact Yd_k
theorem ze_792 : YdF zf_792 := by
  intro d as S
  unfold zf_792
  split
  · exact zd_readSign_p256
  · exact Yd_k
theorem ze_793 : YdF zf_793 := by
  intro d as S
  unfold zf_793
  split
  · exact zd_copied_p137
  · exact Yd_k
theorem ze_794 : YdF zf_794 := by
  intro d as S
  unfold zf_794
  split
  · exact zd_merge_p94
  · exact Yd_k
theorem ze_795 : YdF zf_795 := by
  intro d as S
  unfold zf_795
  split
  · exact zd_mergeRows_p213
  · exact Yd_k
theorem ze_796 : YdF zf_796 := by
  intro d as S
  unfold zf_796
  split
  · exact zd_allFields_p54
  · exact Yd_k
theorem ze_797 : YdF zf_797 := by
  intro d as S
  unfold zf_797
  split
  · exact zd_through_p210
  · exact Yd_k
theorem ze_798 : YdF zf_798 := by
  intro d as S
  unfold zf_798
  split
  · exact zd_markRim_p106
  · exact Yd_k
theorem ze_799 : YdF zf_799 := by
  intro d as S
  unfold zf_799
  split
  · exact zd_judgedClause_p293
  · exact Yd_k
theorem ze_800 : YdF zf_800 := by
  intro d as S
  unfold zf_800
  split
  · exact zd_listed_p171
  · exact Yd_k
theorem ze_801 : YdF zf_801 := by
  intro d as S
  unfold zf_801
  split
  · exact zd_judgedData_p306
  · exact Yd_k
theorem ze_802 : YdF zf_802 := by
  intro d as S
  unfold zf_802
  split
  · exact zd_judgedCons_p228
  · exact Yd_k
theorem ze_803 : YdF zf_803 := by
  intro d as S
  unfold zf_803
  split
  · exact zd_admits_p135
  · exact Yd_k
theorem ze_804 : YdF zf_804 := by
  intro d as S
  unfold zf_804
  split
  · exact zd_judgedException_p195
  · exact Yd_k
theorem ze_805 : YdF zf_805 := by
  intro d as S
  unfold zf_805
  split
  · exact zd_linked_vBefore_p10
  · exact Yd_k
theorem ze_806 : YdF zf_806 := by
  intro d as S
  unfold zf_806
  split
  · exact zd_linked_tBefore_p10
  · exact Yd_k
theorem ze_807 : YdF zf_807 := by
  intro d as S
  unfold zf_807
  split
  · exact zd_noteAll_p372
  · exact Yd_k
theorem ze_808 : YdF zf_808 := by
  intro d as S
  unfold zf_808
  split
  · exact zd_rowStep_p145
  · exact Yd_k
theorem ze_809 : YdF zf_809 := by
  intro d as S
  unfold zf_809
  split
  · exact zd_areEqual_p182
  · exact Yd_k
theorem ze_810 : YdF zf_810 := by
  intro d as S
  unfold zf_810
  split
  · exact zd_keepBound_p329
  · exact Yd_k
theorem ze_811 : YdF zf_811 := by
  intro d as S
  unfold zf_811
  split
  · exact zd_sayRow_p124
  · exact Yd_k
theorem ze_812 : YdF zf_812 := by
  intro d as S
  unfold zf_812
  split
  · exact zd_sayType_p121
  · exact Yd_k
theorem ze_813 : YdF zf_813 := by
  intro d as S
  unfold zf_813
  split
  · exact zd_sayVariable_p141
  · exact Yd_k
theorem ze_814 : YdF zf_814 := by
  intro d as S
  unfold zf_814
  split
  · exact zd_sayVariable_p70
  · exact Yd_k
theorem ze_815 : YdF zf_815 := by
  intro d as S
  unfold zf_815
  split
  · exact zd_sayRowType_p148
  · exact Yd_k
theorem ze_816 : YdF zf_816 := by
  intro d as S
  unfold zf_816
  split
  · exact zd_sayRowType_p101
  · exact Yd_k
theorem ze_817 : YdF zf_817 := by
  intro d as S
  unfold zf_817
  split
  · exact zd_nameAt_text_p120
  · exact Yd_k
theorem ze_818 : YdF zf_818 := by
  intro d as S
  unfold zf_818
  split
  · exact zd_infixed_p146
  · exact Yd_k
theorem ze_819 : YdF zf_819 := by
  intro d as S
  unfold zf_819
  split
  · exact zd_mergeRows_p223
  · exact Yd_k
theorem ze_820 : YdF zf_820 := by
  intro d as S
  unfold zf_820
  split
  · exact zd_allFields_p93
  · exact Yd_k
theorem ze_821 : YdF zf_821 := by
  intro d as S
  unfold zf_821
  split
  · exact zd_markRim_p147
  · exact Yd_k
theorem ze_822 : YdF zf_822 := by
  intro d as S
  unfold zf_822
  split
  · exact zd_judgedData_p429
  · exact Yd_k
theorem ze_823 : YdF zf_823 := by
  intro d as S
  unfold zf_823
  split
  · exact zd_judgedData_p318
  · exact Yd_k
theorem ze_824 : YdF zf_824 := by
  intro d as S
  unfold zf_824
  split
  · exact zd_judgedCons_p355
  · exact Yd_k
theorem ze_825 : YdF zf_825 := by
  intro d as S
  unfold zf_825
  split
  · exact zd_judgedCons_p277
  · exact Yd_k
theorem ze_826 : YdF zf_826 := by
  intro d as S
  unfold zf_826
  split
  · exact zd_sayType_p189
  · exact Yd_k
theorem ze_827 : YdF zf_827 := by
  intro d as S
  unfold zf_827
  split
  · exact zd_infixed_p158
  · exact Yd_k
theorem ze_828 : YdF zf_828 := by
  intro d as S
  unfold zf_828
  split
  · exact zd_allFields_p155
  · exact Yd_k
theorem ze_829 : YdF zf_829 := by
  intro d as S
  unfold zf_829
  split
  · exact zd_allFields_p132
  · exact Yd_k
theorem ze_830 : YdF zf_830 := by
  intro d as S
  unfold zf_830
  split
  · exact zd_judgedCons_p392
  · exact Yd_k
theorem ze_831 : YdF zf_831 := by
  intro d as S
  unfold zf_831
  split
  · exact zd_sayType_p213
  · exact Yd_k
theorem ze_832 : YdF zf_832 := by
  intro d as S
  unfold zf_832
  split
  · exact zd_allFields_p199
  · exact Yd_k
theorem ze_833 : YdF zf_833 := by
  intro d as S
  unfold zf_833
  split
  · exact zd_allFields_p148
  · exact Yd_k
theorem ze_834 : YdF zf_834 := by
  intro d as S
  unfold zf_834
  split
  · exact zd_sayType_p233
  · exact Yd_k
def ztf_0 : List (zFn ZS) := [zf_0, zf_1, zf_2, zf_3, zf_4, zf_5, zf_6, zf_7, zf_8, zf_9, zf_10, zf_11, zf_12, zf_13, zf_14, zf_15, zf_16, zf_17, zf_18, zf_19, zf_20, zf_21, zf_22, zf_23, zf_24, zf_25, zf_26, zf_27, zf_28, zf_29, zf_30, zf_31, zf_32, zf_33, zf_34, zf_35, zf_36, zf_37, zf_38, zf_39]
def ztf_40 : List (zFn ZS) := [zf_40, zf_41, zf_42, zf_43, zf_44, zf_45, zf_46, zf_47, zf_48, zf_49, zf_50, zf_51, zf_52, zf_53, zf_54, zf_55, zf_56, zf_57, zf_58, zf_59, zf_60, zf_61, zf_62, zf_63, zf_64, zf_65, zf_66, zf_67, zf_68, zf_69, zf_70, zf_71, zf_72, zf_73, zf_74, zf_75, zf_76, zf_77, zf_78, zf_79]
def ztf_80 : List (zFn ZS) := [zf_80, zf_81, zf_82, zf_83, zf_84, zf_85, zf_86, zf_87, zf_88, zf_89, zf_90, zf_91, zf_92, zf_93, zf_94, zf_95, zf_96, zf_97, zf_98, zf_99, zf_100, zf_101, zf_102, zf_103, zf_104, zf_105, zf_106, zf_107, zf_108, zf_109, zf_110, zf_111, zf_112, zf_113, zf_114, zf_115, zf_116, zf_117, zf_118, zf_119]
def ztf_120 : List (zFn ZS) := [zf_120, zf_121, zf_122, zf_123, zf_124, zf_125, zf_126, zf_127, zf_128, zf_129, zf_130, zf_131, zf_132, zf_133, zf_134, zf_135, zf_136, zf_137, zf_138, zf_139, zf_140, zf_141, zf_142, zf_143, zf_144, zf_145, zf_146, zf_147, zf_148, zf_149, zf_150, zf_151, zf_152, zf_153, zf_154, zf_155, zf_156, zf_157, zf_158, zf_159]
def ztf_160 : List (zFn ZS) := [zf_160, zf_161, zf_162, zf_163, zf_164, zf_165, zf_166, zf_167, zf_168, zf_169, zf_170, zf_171, zf_172, zf_173, zf_174, zf_175, zf_176, zf_177, zf_178, zf_179, zf_180, zf_181, zf_182, zf_183, zf_184, zf_185, zf_186, zf_187, zf_188, zf_189, zf_190, zf_191, zf_192, zf_193, zf_194, zf_195, zf_196, zf_197, zf_198, zf_199]
def ztf_200 : List (zFn ZS) := [zf_200, zf_201, zf_202, zf_203, zf_204, zf_205, zf_206, zf_207, zf_208, zf_209, zf_210, zf_211, zf_212, zf_213, zf_214, zf_215, zf_216, zf_217, zf_218, zf_219, zf_220, zf_221, zf_222, zf_223, zf_224, zf_225, zf_226, zf_227, zf_228, zf_229, zf_230, zf_231, zf_232, zf_233, zf_234, zf_235, zf_236, zf_237, zf_238, zf_239]
def ztf_240 : List (zFn ZS) := [zf_240, zf_241, zf_242, zf_243, zf_244, zf_245, zf_246, zf_247, zf_248, zf_249, zf_250, zf_251, zf_252, zf_253, zf_254, zf_255, zf_256, zf_257, zf_258, zf_259, zf_260, zf_261, zf_262, zf_263, zf_264, zf_265, zf_266, zf_267, zf_268, zf_269, zf_270, zf_271, zf_272, zf_273, zf_274, zf_275, zf_276, zf_277, zf_278, zf_279]
def ztf_280 : List (zFn ZS) := [zf_280, zf_281, zf_282, zf_283, zf_284, zf_285, zf_286, zf_287, zf_288, zf_289, zf_290, zf_291, zf_292, zf_293, zf_294, zf_295, zf_296, zf_297, zf_298, zf_299, zf_300, zf_301, zf_302, zf_303, zf_304, zf_305, zf_306, zf_307, zf_308, zf_309, zf_310, zf_311, zf_312, zf_313, zf_314, zf_315, zf_316, zf_317, zf_318, zf_319]
def ztf_320 : List (zFn ZS) := [zf_320, zf_321, zf_322, zf_323, zf_324, zf_325, zf_326, zf_327, zf_328, zf_329, zf_330, zf_331, zf_332, zf_333, zf_334, zf_335, zf_336, zf_337, zf_338, zf_339, zf_340, zf_341, zf_342, zf_343, zf_344, zf_345, zf_346, zf_347, zf_348, zf_349, zf_350, zf_351, zf_352, zf_353, zf_354, zf_355, zf_356, zf_357, zf_358, zf_359]
def ztf_360 : List (zFn ZS) := [zf_360, zf_361, zf_362, zf_363, zf_364, zf_365, zf_366, zf_367, zf_368, zf_369, zf_370, zf_371, zf_372, zf_373, zf_374, zf_375, zf_376, zf_377, zf_378, zf_379, zf_380, zf_381, zf_382, zf_383, zf_384, zf_385, zf_386, zf_387, zf_388, zf_389, zf_390, zf_391, zf_392, zf_393, zf_394, zf_395, zf_396, zf_397, zf_398, zf_399]
def ztf_400 : List (zFn ZS) := [zf_400, zf_401, zf_402, zf_403, zf_404, zf_405, zf_406, zf_407, zf_408, zf_409, zf_410, zf_411, zf_412, zf_413, zf_414, zf_415, zf_416, zf_417, zf_418, zf_419, zf_420, zf_421, zf_422, zf_423, zf_424, zf_425, zf_426, zf_427, zf_428, zf_429, zf_430, zf_431, zf_432, zf_433, zf_434, zf_435, zf_436, zf_437, zf_438, zf_439]
def ztf_440 : List (zFn ZS) := [zf_440, zf_441, zf_442, zf_443, zf_444, zf_445, zf_446, zf_447, zf_448, zf_449, zf_450, zf_451, zf_452, zf_453, zf_454, zf_455, zf_456, zf_457, zf_458, zf_459, zf_460, zf_461, zf_462, zf_463, zf_464, zf_465, zf_466, zf_467, zf_468, zf_469, zf_470, zf_471, zf_472, zf_473, zf_474, zf_475, zf_476, zf_477, zf_478, zf_479]
def ztf_480 : List (zFn ZS) := [zf_480, zf_481, zf_482, zf_483, zf_484, zf_485, zf_486, zf_487, zf_488, zf_489, zf_490, zf_491, zf_492, zf_493, zf_494, zf_495, zf_496, zf_497, zf_498, zf_499, zf_500, zf_501, zf_502, zf_503, zf_504, zf_505, zf_506, zf_507, zf_508, zf_509, zf_510, zf_511, zf_512, zf_513, zf_514, zf_515, zf_516, zf_517, zf_518, zf_519]
def ztf_520 : List (zFn ZS) := [zf_520, zf_521, zf_522, zf_523, zf_524, zf_525, zf_526, zf_527, zf_528, zf_529, zf_530, zf_531, zf_532, zf_533, zf_534, zf_535, zf_536, zf_537, zf_538, zf_539, zf_540, zf_541, zf_542, zf_543, zf_544, zf_545, zf_546, zf_547, zf_548, zf_549, zf_550, zf_551, zf_552, zf_553, zf_554, zf_555, zf_556, zf_557, zf_558, zf_559]
def ztf_560 : List (zFn ZS) := [zf_560, zf_561, zf_562, zf_563, zf_564, zf_565, zf_566, zf_567, zf_568, zf_569, zf_570, zf_571, zf_572, zf_573, zf_574, zf_575, zf_576, zf_577, zf_578, zf_579, zf_580, zf_581, zf_582, zf_583, zf_584, zf_585, zf_586, zf_587, zf_588, zf_589, zf_590, zf_591, zf_592, zf_593, zf_594, zf_595, zf_596, zf_597, zf_598, zf_599]
def ztf_600 : List (zFn ZS) := [zf_600, zf_601, zf_602, zf_603, zf_604, zf_605, zf_606, zf_607, zf_608, zf_609, zf_610, zf_611, zf_612, zf_613, zf_614, zf_615, zf_616, zf_617, zf_618, zf_619, zf_620, zf_621, zf_622, zf_623, zf_624, zf_625, zf_626, zf_627, zf_628, zf_629, zf_630, zf_631, zf_632, zf_633, zf_634, zf_635, zf_636, zf_637, zf_638, zf_639]
def ztf_640 : List (zFn ZS) := [zf_640, zf_641, zf_642, zf_643, zf_644, zf_645, zf_646, zf_647, zf_648, zf_649, zf_650, zf_651, zf_652, zf_653, zf_654, zf_655, zf_656, zf_657, zf_658, zf_659, zf_660, zf_661, zf_662, zf_663, zf_664, zf_665, zf_666, zf_667, zf_668, zf_669, zf_670, zf_671, zf_672, zf_673, zf_674, zf_675, zf_676, zf_677, zf_678, zf_679]
def ztf_680 : List (zFn ZS) := [zf_680, zf_681, zf_682, zf_683, zf_684, zf_685, zf_686, zf_687, zf_688, zf_689, zf_690, zf_691, zf_692, zf_693, zf_694, zf_695, zf_696, zf_697, zf_698, zf_699, zf_700, zf_701, zf_702, zf_703, zf_704, zf_705, zf_706, zf_707, zf_708, zf_709, zf_710, zf_711, zf_712, zf_713, zf_714, zf_715, zf_716, zf_717, zf_718, zf_719]
def ztf_720 : List (zFn ZS) := [zf_720, zf_721, zf_722, zf_723, zf_724, zf_725, zf_726, zf_727, zf_728, zf_729, zf_730, zf_731, zf_732, zf_733, zf_734, zf_735, zf_736, zf_737, zf_738, zf_739, zf_740, zf_741, zf_742, zf_743, zf_744, zf_745, zf_746, zf_747, zf_748, zf_749, zf_750, zf_751, zf_752, zf_753, zf_754, zf_755, zf_756, zf_757, zf_758, zf_759]
def ztf_760 : List (zFn ZS) := [zf_760, zf_761, zf_762, zf_763, zf_764, zf_765, zf_766, zf_767, zf_768, zf_769, zf_770, zf_771, zf_772, zf_773, zf_774, zf_775, zf_776, zf_777, zf_778, zf_779, zf_780, zf_781, zf_782, zf_783, zf_784, zf_785, zf_786, zf_787, zf_788, zf_789, zf_790, zf_791, zf_792, zf_793, zf_794, zf_795, zf_796, zf_797, zf_798, zf_799]
def ztf_800 : List (zFn ZS) := [zf_800, zf_801, zf_802, zf_803, zf_804, zf_805, zf_806, zf_807, zf_808, zf_809, zf_810, zf_811, zf_812, zf_813, zf_814, zf_815, zf_816, zf_817, zf_818, zf_819, zf_820, zf_821, zf_822, zf_823, zf_824, zf_825, zf_826, zf_827, zf_828, zf_829, zf_830, zf_831, zf_832, zf_833, zf_834]
def ztf : List (zFn ZS) := ztf_0 ++ (ztf_40 ++ (ztf_80 ++ (ztf_120 ++ (ztf_160 ++ (ztf_200 ++ (ztf_240 ++ (ztf_280 ++ (ztf_320 ++ (ztf_360 ++ (ztf_400 ++ (ztf_440 ++ (ztf_480 ++ (ztf_520 ++ (ztf_560 ++ (ztf_600 ++ (ztf_640 ++ (ztf_680 ++ (ztf_720 ++ (ztf_760 ++ (ztf_800))))))))))))))))))))
theorem zte_0 : ∀ f ∈ ztf_0, YdF f := Yd_lcons ze_0 (Yd_lcons ze_1 (Yd_lcons ze_2 (Yd_lcons ze_3 (Yd_lcons ze_4 (Yd_lcons ze_5 (Yd_lcons ze_6 (Yd_lcons ze_7 (Yd_lcons ze_8 (Yd_lcons ze_9 (Yd_lcons ze_10 (Yd_lcons ze_11 (Yd_lcons ze_12 (Yd_lcons ze_13 (Yd_lcons ze_14 (Yd_lcons ze_15 (Yd_lcons ze_16 (Yd_lcons ze_17 (Yd_lcons ze_18 (Yd_lcons ze_19 (Yd_lcons ze_20 (Yd_lcons ze_21 (Yd_lcons ze_22 (Yd_lcons ze_23 (Yd_lcons ze_24 (Yd_lcons ze_25 (Yd_lcons ze_26 (Yd_lcons ze_27 (Yd_lcons ze_28 (Yd_lcons ze_29 (Yd_lcons ze_30 (Yd_lcons ze_31 (Yd_lcons ze_32 (Yd_lcons ze_33 (Yd_lcons ze_34 (Yd_lcons ze_35 (Yd_lcons ze_36 (Yd_lcons ze_37 (Yd_lcons ze_38 (Yd_lcons ze_39 (Yd_lnil))))))))))))))))))))))))))))))))))))))))
theorem zte_40 : ∀ f ∈ ztf_40, YdF f := Yd_lcons ze_40 (Yd_lcons ze_41 (Yd_lcons ze_42 (Yd_lcons ze_43 (Yd_lcons ze_44 (Yd_lcons ze_45 (Yd_lcons ze_46 (Yd_lcons ze_47 (Yd_lcons ze_48 (Yd_lcons ze_49 (Yd_lcons ze_50 (Yd_lcons ze_51 (Yd_lcons ze_52 (Yd_lcons ze_53 (Yd_lcons ze_54 (Yd_lcons ze_55 (Yd_lcons ze_56 (Yd_lcons ze_57 (Yd_lcons ze_58 (Yd_lcons ze_59 (Yd_lcons ze_60 (Yd_lcons ze_61 (Yd_lcons ze_62 (Yd_lcons ze_63 (Yd_lcons ze_64 (Yd_lcons ze_65 (Yd_lcons ze_66 (Yd_lcons ze_67 (Yd_lcons ze_68 (Yd_lcons ze_69 (Yd_lcons ze_70 (Yd_lcons ze_71 (Yd_lcons ze_72 (Yd_lcons ze_73 (Yd_lcons ze_74 (Yd_lcons ze_75 (Yd_lcons ze_76 (Yd_lcons ze_77 (Yd_lcons ze_78 (Yd_lcons ze_79 (Yd_lnil))))))))))))))))))))))))))))))))))))))))
theorem zte_80 : ∀ f ∈ ztf_80, YdF f := Yd_lcons ze_80 (Yd_lcons ze_81 (Yd_lcons ze_82 (Yd_lcons ze_83 (Yd_lcons ze_84 (Yd_lcons ze_85 (Yd_lcons ze_86 (Yd_lcons ze_87 (Yd_lcons ze_88 (Yd_lcons ze_89 (Yd_lcons ze_90 (Yd_lcons ze_91 (Yd_lcons ze_92 (Yd_lcons ze_93 (Yd_lcons ze_94 (Yd_lcons ze_95 (Yd_lcons ze_96 (Yd_lcons ze_97 (Yd_lcons ze_98 (Yd_lcons ze_99 (Yd_lcons ze_100 (Yd_lcons ze_101 (Yd_lcons ze_102 (Yd_lcons ze_103 (Yd_lcons ze_104 (Yd_lcons ze_105 (Yd_lcons ze_106 (Yd_lcons ze_107 (Yd_lcons ze_108 (Yd_lcons ze_109 (Yd_lcons ze_110 (Yd_lcons ze_111 (Yd_lcons ze_112 (Yd_lcons ze_113 (Yd_lcons ze_114 (Yd_lcons ze_115 (Yd_lcons ze_116 (Yd_lcons ze_117 (Yd_lcons ze_118 (Yd_lcons ze_119 (Yd_lnil))))))))))))))))))))))))))))))))))))))))
theorem zte_120 : ∀ f ∈ ztf_120, YdF f := Yd_lcons ze_120 (Yd_lcons ze_121 (Yd_lcons ze_122 (Yd_lcons ze_123 (Yd_lcons ze_124 (Yd_lcons ze_125 (Yd_lcons ze_126 (Yd_lcons ze_127 (Yd_lcons ze_128 (Yd_lcons ze_129 (Yd_lcons ze_130 (Yd_lcons ze_131 (Yd_lcons ze_132 (Yd_lcons ze_133 (Yd_lcons ze_134 (Yd_lcons ze_135 (Yd_lcons ze_136 (Yd_lcons ze_137 (Yd_lcons ze_138 (Yd_lcons ze_139 (Yd_lcons ze_140 (Yd_lcons ze_141 (Yd_lcons ze_142 (Yd_lcons ze_143 (Yd_lcons ze_144 (Yd_lcons ze_145 (Yd_lcons ze_146 (Yd_lcons ze_147 (Yd_lcons ze_148 (Yd_lcons ze_149 (Yd_lcons ze_150 (Yd_lcons ze_151 (Yd_lcons ze_152 (Yd_lcons ze_153 (Yd_lcons ze_154 (Yd_lcons ze_155 (Yd_lcons ze_156 (Yd_lcons ze_157 (Yd_lcons ze_158 (Yd_lcons ze_159 (Yd_lnil))))))))))))))))))))))))))))))))))))))))
theorem zte_160 : ∀ f ∈ ztf_160, YdF f := Yd_lcons ze_160 (Yd_lcons ze_161 (Yd_lcons ze_162 (Yd_lcons ze_163 (Yd_lcons ze_164 (Yd_lcons ze_165 (Yd_lcons ze_166 (Yd_lcons ze_167 (Yd_lcons ze_168 (Yd_lcons ze_169 (Yd_lcons ze_170 (Yd_lcons ze_171 (Yd_lcons ze_172 (Yd_lcons ze_173 (Yd_lcons ze_174 (Yd_lcons ze_175 (Yd_lcons ze_176 (Yd_lcons ze_177 (Yd_lcons ze_178 (Yd_lcons ze_179 (Yd_lcons ze_180 (Yd_lcons ze_181 (Yd_lcons ze_182 (Yd_lcons ze_183 (Yd_lcons ze_184 (Yd_lcons ze_185 (Yd_lcons ze_186 (Yd_lcons ze_187 (Yd_lcons ze_188 (Yd_lcons ze_189 (Yd_lcons ze_190 (Yd_lcons ze_191 (Yd_lcons ze_192 (Yd_lcons ze_193 (Yd_lcons ze_194 (Yd_lcons ze_195 (Yd_lcons ze_196 (Yd_lcons ze_197 (Yd_lcons ze_198 (Yd_lcons ze_199 (Yd_lnil))))))))))))))))))))))))))))))))))))))))
theorem zte_200 : ∀ f ∈ ztf_200, YdF f := Yd_lcons ze_200 (Yd_lcons ze_201 (Yd_lcons ze_202 (Yd_lcons ze_203 (Yd_lcons ze_204 (Yd_lcons ze_205 (Yd_lcons ze_206 (Yd_lcons ze_207 (Yd_lcons ze_208 (Yd_lcons ze_209 (Yd_lcons ze_210 (Yd_lcons ze_211 (Yd_lcons ze_212 (Yd_lcons ze_213 (Yd_lcons ze_214 (Yd_lcons ze_215 (Yd_lcons ze_216 (Yd_lcons ze_217 (Yd_lcons ze_218 (Yd_lcons ze_219 (Yd_lcons ze_220 (Yd_lcons ze_221 (Yd_lcons ze_222 (Yd_lcons ze_223 (Yd_lcons ze_224 (Yd_lcons ze_225 (Yd_lcons ze_226 (Yd_lcons ze_227 (Yd_lcons ze_228 (Yd_lcons ze_229 (Yd_lcons ze_230 (Yd_lcons ze_231 (Yd_lcons ze_232 (Yd_lcons ze_233 (Yd_lcons ze_234 (Yd_lcons ze_235 (Yd_lcons ze_236 (Yd_lcons ze_237 (Yd_lcons ze_238 (Yd_lcons ze_239 (Yd_lnil))))))))))))))))))))))))))))))))))))))))
theorem zte_240 : ∀ f ∈ ztf_240, YdF f := Yd_lcons ze_240 (Yd_lcons ze_241 (Yd_lcons ze_242 (Yd_lcons ze_243 (Yd_lcons ze_244 (Yd_lcons ze_245 (Yd_lcons ze_246 (Yd_lcons ze_247 (Yd_lcons ze_248 (Yd_lcons ze_249 (Yd_lcons ze_250 (Yd_lcons ze_251 (Yd_lcons ze_252 (Yd_lcons ze_253 (Yd_lcons ze_254 (Yd_lcons ze_255 (Yd_lcons ze_256 (Yd_lcons ze_257 (Yd_lcons ze_258 (Yd_lcons ze_259 (Yd_lcons ze_260 (Yd_lcons ze_261 (Yd_lcons ze_262 (Yd_lcons ze_263 (Yd_lcons ze_264 (Yd_lcons ze_265 (Yd_lcons ze_266 (Yd_lcons ze_267 (Yd_lcons ze_268 (Yd_lcons ze_269 (Yd_lcons ze_270 (Yd_lcons ze_271 (Yd_lcons ze_272 (Yd_lcons ze_273 (Yd_lcons ze_274 (Yd_lcons ze_275 (Yd_lcons ze_276 (Yd_lcons ze_277 (Yd_lcons ze_278 (Yd_lcons ze_279 (Yd_lnil))))))))))))))))))))))))))))))))))))))))
theorem zte_280 : ∀ f ∈ ztf_280, YdF f := Yd_lcons ze_280 (Yd_lcons ze_281 (Yd_lcons ze_282 (Yd_lcons ze_283 (Yd_lcons ze_284 (Yd_lcons ze_285 (Yd_lcons ze_286 (Yd_lcons ze_287 (Yd_lcons ze_288 (Yd_lcons ze_289 (Yd_lcons ze_290 (Yd_lcons ze_291 (Yd_lcons ze_292 (Yd_lcons ze_293 (Yd_lcons ze_294 (Yd_lcons ze_295 (Yd_lcons ze_296 (Yd_lcons ze_297 (Yd_lcons ze_298 (Yd_lcons ze_299 (Yd_lcons ze_300 (Yd_lcons ze_301 (Yd_lcons ze_302 (Yd_lcons ze_303 (Yd_lcons ze_304 (Yd_lcons ze_305 (Yd_lcons ze_306 (Yd_lcons ze_307 (Yd_lcons ze_308 (Yd_lcons ze_309 (Yd_lcons ze_310 (Yd_lcons ze_311 (Yd_lcons ze_312 (Yd_lcons ze_313 (Yd_lcons ze_314 (Yd_lcons ze_315 (Yd_lcons ze_316 (Yd_lcons ze_317 (Yd_lcons ze_318 (Yd_lcons ze_319 (Yd_lnil))))))))))))))))))))))))))))))))))))))))
theorem zte_320 : ∀ f ∈ ztf_320, YdF f := Yd_lcons ze_320 (Yd_lcons ze_321 (Yd_lcons ze_322 (Yd_lcons ze_323 (Yd_lcons ze_324 (Yd_lcons ze_325 (Yd_lcons ze_326 (Yd_lcons ze_327 (Yd_lcons ze_328 (Yd_lcons ze_329 (Yd_lcons ze_330 (Yd_lcons ze_331 (Yd_lcons ze_332 (Yd_lcons ze_333 (Yd_lcons ze_334 (Yd_lcons ze_335 (Yd_lcons ze_336 (Yd_lcons ze_337 (Yd_lcons ze_338 (Yd_lcons ze_339 (Yd_lcons ze_340 (Yd_lcons ze_341 (Yd_lcons ze_342 (Yd_lcons ze_343 (Yd_lcons ze_344 (Yd_lcons ze_345 (Yd_lcons ze_346 (Yd_lcons ze_347 (Yd_lcons ze_348 (Yd_lcons ze_349 (Yd_lcons ze_350 (Yd_lcons ze_351 (Yd_lcons ze_352 (Yd_lcons ze_353 (Yd_lcons ze_354 (Yd_lcons ze_355 (Yd_lcons ze_356 (Yd_lcons ze_357 (Yd_lcons ze_358 (Yd_lcons ze_359 (Yd_lnil))))))))))))))))))))))))))))))))))))))))
theorem zte_360 : ∀ f ∈ ztf_360, YdF f := Yd_lcons ze_360 (Yd_lcons ze_361 (Yd_lcons ze_362 (Yd_lcons ze_363 (Yd_lcons ze_364 (Yd_lcons ze_365 (Yd_lcons ze_366 (Yd_lcons ze_367 (Yd_lcons ze_368 (Yd_lcons ze_369 (Yd_lcons ze_370 (Yd_lcons ze_371 (Yd_lcons ze_372 (Yd_lcons ze_373 (Yd_lcons ze_374 (Yd_lcons ze_375 (Yd_lcons ze_376 (Yd_lcons ze_377 (Yd_lcons ze_378 (Yd_lcons ze_379 (Yd_lcons ze_380 (Yd_lcons ze_381 (Yd_lcons ze_382 (Yd_lcons ze_383 (Yd_lcons ze_384 (Yd_lcons ze_385 (Yd_lcons ze_386 (Yd_lcons ze_387 (Yd_lcons ze_388 (Yd_lcons ze_389 (Yd_lcons ze_390 (Yd_lcons ze_391 (Yd_lcons ze_392 (Yd_lcons ze_393 (Yd_lcons ze_394 (Yd_lcons ze_395 (Yd_lcons ze_396 (Yd_lcons ze_397 (Yd_lcons ze_398 (Yd_lcons ze_399 (Yd_lnil))))))))))))))))))))))))))))))))))))))))
theorem zte_400 : ∀ f ∈ ztf_400, YdF f := Yd_lcons ze_400 (Yd_lcons ze_401 (Yd_lcons ze_402 (Yd_lcons ze_403 (Yd_lcons ze_404 (Yd_lcons ze_405 (Yd_lcons ze_406 (Yd_lcons ze_407 (Yd_lcons ze_408 (Yd_lcons ze_409 (Yd_lcons ze_410 (Yd_lcons ze_411 (Yd_lcons ze_412 (Yd_lcons ze_413 (Yd_lcons ze_414 (Yd_lcons ze_415 (Yd_lcons ze_416 (Yd_lcons ze_417 (Yd_lcons ze_418 (Yd_lcons ze_419 (Yd_lcons ze_420 (Yd_lcons ze_421 (Yd_lcons ze_422 (Yd_lcons ze_423 (Yd_lcons ze_424 (Yd_lcons ze_425 (Yd_lcons ze_426 (Yd_lcons ze_427 (Yd_lcons ze_428 (Yd_lcons ze_429 (Yd_lcons ze_430 (Yd_lcons ze_431 (Yd_lcons ze_432 (Yd_lcons ze_433 (Yd_lcons ze_434 (Yd_lcons ze_435 (Yd_lcons ze_436 (Yd_lcons ze_437 (Yd_lcons ze_438 (Yd_lcons ze_439 (Yd_lnil))))))))))))))))))))))))))))))))))))))))
theorem zte_440 : ∀ f ∈ ztf_440, YdF f := Yd_lcons ze_440 (Yd_lcons ze_441 (Yd_lcons ze_442 (Yd_lcons ze_443 (Yd_lcons ze_444 (Yd_lcons ze_445 (Yd_lcons ze_446 (Yd_lcons ze_447 (Yd_lcons ze_448 (Yd_lcons ze_449 (Yd_lcons ze_450 (Yd_lcons ze_451 (Yd_lcons ze_452 (Yd_lcons ze_453 (Yd_lcons ze_454 (Yd_lcons ze_455 (Yd_lcons ze_456 (Yd_lcons ze_457 (Yd_lcons ze_458 (Yd_lcons ze_459 (Yd_lcons ze_460 (Yd_lcons ze_461 (Yd_lcons ze_462 (Yd_lcons ze_463 (Yd_lcons ze_464 (Yd_lcons ze_465 (Yd_lcons ze_466 (Yd_lcons ze_467 (Yd_lcons ze_468 (Yd_lcons ze_469 (Yd_lcons ze_470 (Yd_lcons ze_471 (Yd_lcons ze_472 (Yd_lcons ze_473 (Yd_lcons ze_474 (Yd_lcons ze_475 (Yd_lcons ze_476 (Yd_lcons ze_477 (Yd_lcons ze_478 (Yd_lcons ze_479 (Yd_lnil))))))))))))))))))))))))))))))))))))))))
theorem zte_480 : ∀ f ∈ ztf_480, YdF f := Yd_lcons ze_480 (Yd_lcons ze_481 (Yd_lcons ze_482 (Yd_lcons ze_483 (Yd_lcons ze_484 (Yd_lcons ze_485 (Yd_lcons ze_486 (Yd_lcons ze_487 (Yd_lcons ze_488 (Yd_lcons ze_489 (Yd_lcons ze_490 (Yd_lcons ze_491 (Yd_lcons ze_492 (Yd_lcons ze_493 (Yd_lcons ze_494 (Yd_lcons ze_495 (Yd_lcons ze_496 (Yd_lcons ze_497 (Yd_lcons ze_498 (Yd_lcons ze_499 (Yd_lcons ze_500 (Yd_lcons ze_501 (Yd_lcons ze_502 (Yd_lcons ze_503 (Yd_lcons ze_504 (Yd_lcons ze_505 (Yd_lcons ze_506 (Yd_lcons ze_507 (Yd_lcons ze_508 (Yd_lcons ze_509 (Yd_lcons ze_510 (Yd_lcons ze_511 (Yd_lcons ze_512 (Yd_lcons ze_513 (Yd_lcons ze_514 (Yd_lcons ze_515 (Yd_lcons ze_516 (Yd_lcons ze_517 (Yd_lcons ze_518 (Yd_lcons ze_519 (Yd_lnil))))))))))))))))))))))))))))))))))))))))
theorem zte_520 : ∀ f ∈ ztf_520, YdF f := Yd_lcons ze_520 (Yd_lcons ze_521 (Yd_lcons ze_522 (Yd_lcons ze_523 (Yd_lcons ze_524 (Yd_lcons ze_525 (Yd_lcons ze_526 (Yd_lcons ze_527 (Yd_lcons ze_528 (Yd_lcons ze_529 (Yd_lcons ze_530 (Yd_lcons ze_531 (Yd_lcons ze_532 (Yd_lcons ze_533 (Yd_lcons ze_534 (Yd_lcons ze_535 (Yd_lcons ze_536 (Yd_lcons ze_537 (Yd_lcons ze_538 (Yd_lcons ze_539 (Yd_lcons ze_540 (Yd_lcons ze_541 (Yd_lcons ze_542 (Yd_lcons ze_543 (Yd_lcons ze_544 (Yd_lcons ze_545 (Yd_lcons ze_546 (Yd_lcons ze_547 (Yd_lcons ze_548 (Yd_lcons ze_549 (Yd_lcons ze_550 (Yd_lcons ze_551 (Yd_lcons ze_552 (Yd_lcons ze_553 (Yd_lcons ze_554 (Yd_lcons ze_555 (Yd_lcons ze_556 (Yd_lcons ze_557 (Yd_lcons ze_558 (Yd_lcons ze_559 (Yd_lnil))))))))))))))))))))))))))))))))))))))))
theorem zte_560 : ∀ f ∈ ztf_560, YdF f := Yd_lcons ze_560 (Yd_lcons ze_561 (Yd_lcons ze_562 (Yd_lcons ze_563 (Yd_lcons ze_564 (Yd_lcons ze_565 (Yd_lcons ze_566 (Yd_lcons ze_567 (Yd_lcons ze_568 (Yd_lcons ze_569 (Yd_lcons ze_570 (Yd_lcons ze_571 (Yd_lcons ze_572 (Yd_lcons ze_573 (Yd_lcons ze_574 (Yd_lcons ze_575 (Yd_lcons ze_576 (Yd_lcons ze_577 (Yd_lcons ze_578 (Yd_lcons ze_579 (Yd_lcons ze_580 (Yd_lcons ze_581 (Yd_lcons ze_582 (Yd_lcons ze_583 (Yd_lcons ze_584 (Yd_lcons ze_585 (Yd_lcons ze_586 (Yd_lcons ze_587 (Yd_lcons ze_588 (Yd_lcons ze_589 (Yd_lcons ze_590 (Yd_lcons ze_591 (Yd_lcons ze_592 (Yd_lcons ze_593 (Yd_lcons ze_594 (Yd_lcons ze_595 (Yd_lcons ze_596 (Yd_lcons ze_597 (Yd_lcons ze_598 (Yd_lcons ze_599 (Yd_lnil))))))))))))))))))))))))))))))))))))))))
theorem zte_600 : ∀ f ∈ ztf_600, YdF f := Yd_lcons ze_600 (Yd_lcons ze_601 (Yd_lcons ze_602 (Yd_lcons ze_603 (Yd_lcons ze_604 (Yd_lcons ze_605 (Yd_lcons ze_606 (Yd_lcons ze_607 (Yd_lcons ze_608 (Yd_lcons ze_609 (Yd_lcons ze_610 (Yd_lcons ze_611 (Yd_lcons ze_612 (Yd_lcons ze_613 (Yd_lcons ze_614 (Yd_lcons ze_615 (Yd_lcons ze_616 (Yd_lcons ze_617 (Yd_lcons ze_618 (Yd_lcons ze_619 (Yd_lcons ze_620 (Yd_lcons ze_621 (Yd_lcons ze_622 (Yd_lcons ze_623 (Yd_lcons ze_624 (Yd_lcons ze_625 (Yd_lcons ze_626 (Yd_lcons ze_627 (Yd_lcons ze_628 (Yd_lcons ze_629 (Yd_lcons ze_630 (Yd_lcons ze_631 (Yd_lcons ze_632 (Yd_lcons ze_633 (Yd_lcons ze_634 (Yd_lcons ze_635 (Yd_lcons ze_636 (Yd_lcons ze_637 (Yd_lcons ze_638 (Yd_lcons ze_639 (Yd_lnil))))))))))))))))))))))))))))))))))))))))
theorem zte_640 : ∀ f ∈ ztf_640, YdF f := Yd_lcons ze_640 (Yd_lcons ze_641 (Yd_lcons ze_642 (Yd_lcons ze_643 (Yd_lcons ze_644 (Yd_lcons ze_645 (Yd_lcons ze_646 (Yd_lcons ze_647 (Yd_lcons ze_648 (Yd_lcons ze_649 (Yd_lcons ze_650 (Yd_lcons ze_651 (Yd_lcons ze_652 (Yd_lcons ze_653 (Yd_lcons ze_654 (Yd_lcons ze_655 (Yd_lcons ze_656 (Yd_lcons ze_657 (Yd_lcons ze_658 (Yd_lcons ze_659 (Yd_lcons ze_660 (Yd_lcons ze_661 (Yd_lcons ze_662 (Yd_lcons ze_663 (Yd_lcons ze_664 (Yd_lcons ze_665 (Yd_lcons ze_666 (Yd_lcons ze_667 (Yd_lcons ze_668 (Yd_lcons ze_669 (Yd_lcons ze_670 (Yd_lcons ze_671 (Yd_lcons ze_672 (Yd_lcons ze_673 (Yd_lcons ze_674 (Yd_lcons ze_675 (Yd_lcons ze_676 (Yd_lcons ze_677 (Yd_lcons ze_678 (Yd_lcons ze_679 (Yd_lnil))))))))))))))))))))))))))))))))))))))))
theorem zte_680 : ∀ f ∈ ztf_680, YdF f := Yd_lcons ze_680 (Yd_lcons ze_681 (Yd_lcons ze_682 (Yd_lcons ze_683 (Yd_lcons ze_684 (Yd_lcons ze_685 (Yd_lcons ze_686 (Yd_lcons ze_687 (Yd_lcons ze_688 (Yd_lcons ze_689 (Yd_lcons ze_690 (Yd_lcons ze_691 (Yd_lcons ze_692 (Yd_lcons ze_693 (Yd_lcons ze_694 (Yd_lcons ze_695 (Yd_lcons ze_696 (Yd_lcons ze_697 (Yd_lcons ze_698 (Yd_lcons ze_699 (Yd_lcons ze_700 (Yd_lcons ze_701 (Yd_lcons ze_702 (Yd_lcons ze_703 (Yd_lcons ze_704 (Yd_lcons ze_705 (Yd_lcons ze_706 (Yd_lcons ze_707 (Yd_lcons ze_708 (Yd_lcons ze_709 (Yd_lcons ze_710 (Yd_lcons ze_711 (Yd_lcons ze_712 (Yd_lcons ze_713 (Yd_lcons ze_714 (Yd_lcons ze_715 (Yd_lcons ze_716 (Yd_lcons ze_717 (Yd_lcons ze_718 (Yd_lcons ze_719 (Yd_lnil))))))))))))))))))))))))))))))))))))))))
theorem zte_720 : ∀ f ∈ ztf_720, YdF f := Yd_lcons ze_720 (Yd_lcons ze_721 (Yd_lcons ze_722 (Yd_lcons ze_723 (Yd_lcons ze_724 (Yd_lcons ze_725 (Yd_lcons ze_726 (Yd_lcons ze_727 (Yd_lcons ze_728 (Yd_lcons ze_729 (Yd_lcons ze_730 (Yd_lcons ze_731 (Yd_lcons ze_732 (Yd_lcons ze_733 (Yd_lcons ze_734 (Yd_lcons ze_735 (Yd_lcons ze_736 (Yd_lcons ze_737 (Yd_lcons ze_738 (Yd_lcons ze_739 (Yd_lcons ze_740 (Yd_lcons ze_741 (Yd_lcons ze_742 (Yd_lcons ze_743 (Yd_lcons ze_744 (Yd_lcons ze_745 (Yd_lcons ze_746 (Yd_lcons ze_747 (Yd_lcons ze_748 (Yd_lcons ze_749 (Yd_lcons ze_750 (Yd_lcons ze_751 (Yd_lcons ze_752 (Yd_lcons ze_753 (Yd_lcons ze_754 (Yd_lcons ze_755 (Yd_lcons ze_756 (Yd_lcons ze_757 (Yd_lcons ze_758 (Yd_lcons ze_759 (Yd_lnil))))))))))))))))))))))))))))))))))))))))
theorem zte_760 : ∀ f ∈ ztf_760, YdF f := Yd_lcons ze_760 (Yd_lcons ze_761 (Yd_lcons ze_762 (Yd_lcons ze_763 (Yd_lcons ze_764 (Yd_lcons ze_765 (Yd_lcons ze_766 (Yd_lcons ze_767 (Yd_lcons ze_768 (Yd_lcons ze_769 (Yd_lcons ze_770 (Yd_lcons ze_771 (Yd_lcons ze_772 (Yd_lcons ze_773 (Yd_lcons ze_774 (Yd_lcons ze_775 (Yd_lcons ze_776 (Yd_lcons ze_777 (Yd_lcons ze_778 (Yd_lcons ze_779 (Yd_lcons ze_780 (Yd_lcons ze_781 (Yd_lcons ze_782 (Yd_lcons ze_783 (Yd_lcons ze_784 (Yd_lcons ze_785 (Yd_lcons ze_786 (Yd_lcons ze_787 (Yd_lcons ze_788 (Yd_lcons ze_789 (Yd_lcons ze_790 (Yd_lcons ze_791 (Yd_lcons ze_792 (Yd_lcons ze_793 (Yd_lcons ze_794 (Yd_lcons ze_795 (Yd_lcons ze_796 (Yd_lcons ze_797 (Yd_lcons ze_798 (Yd_lcons ze_799 (Yd_lnil))))))))))))))))))))))))))))))))))))))))
theorem zte_800 : ∀ f ∈ ztf_800, YdF f := Yd_lcons ze_800 (Yd_lcons ze_801 (Yd_lcons ze_802 (Yd_lcons ze_803 (Yd_lcons ze_804 (Yd_lcons ze_805 (Yd_lcons ze_806 (Yd_lcons ze_807 (Yd_lcons ze_808 (Yd_lcons ze_809 (Yd_lcons ze_810 (Yd_lcons ze_811 (Yd_lcons ze_812 (Yd_lcons ze_813 (Yd_lcons ze_814 (Yd_lcons ze_815 (Yd_lcons ze_816 (Yd_lcons ze_817 (Yd_lcons ze_818 (Yd_lcons ze_819 (Yd_lcons ze_820 (Yd_lcons ze_821 (Yd_lcons ze_822 (Yd_lcons ze_823 (Yd_lcons ze_824 (Yd_lcons ze_825 (Yd_lcons ze_826 (Yd_lcons ze_827 (Yd_lcons ze_828 (Yd_lcons ze_829 (Yd_lcons ze_830 (Yd_lcons ze_831 (Yd_lcons ze_832 (Yd_lcons ze_833 (Yd_lcons ze_834 (Yd_lnil)))))))))))))))))))))))))))))))))))
theorem zte : ∀ f ∈ ztf, YdF f := Yd_lapp zte_0 (Yd_lapp zte_40 (Yd_lapp zte_80 (Yd_lapp zte_120 (Yd_lapp zte_160 (Yd_lapp zte_200 (Yd_lapp zte_240 (Yd_lapp zte_280 (Yd_lapp zte_320 (Yd_lapp zte_360 (Yd_lapp zte_400 (Yd_lapp zte_440 (Yd_lapp zte_480 (Yd_lapp zte_520 (Yd_lapp zte_560 (Yd_lapp zte_600 (Yd_lapp zte_640 (Yd_lapp zte_680 (Yd_lapp zte_720 (Yd_lapp zte_760 (zte_800))))))))))))))))))))
def ZF : Nat → ZC ZS := zfix ztf
noncomputable def ZL : ZC ZS := zlim ZF
theorem zl_feed {d : Nat} {x1 : Int} {x2 : Int} {x3 : Int} {x4 : Int} {x5 : Int} {S : ZS} {Q : Option (Option ZV) → ZS → Prop} (h : zW (zb_feed ZL d x1 x2 x3 x4 x5 S) Q) : zW (ZL d 0 [.inl x1, .inl x2, .inl x3, .inl x4, .inl x5] S) Q := zW_of zte (f := zf_0) rfl h
theorem zl_end {d : Nat} {x1 : Int} {S : ZS} {Q : Option (Option ZV) → ZS → Prop} (h : zW (zb_end ZL d x1 S) Q) : zW (ZL d 1 [.inl x1] S) Q := zW_of zte (f := zf_1) rfl h
theorem zl_bindType {d : Nat} {x1 : Int} {x2 : Int} {x3 : Int} {x4 : Int} {S : ZS} {Q : Option (Option ZV) → ZS → Prop} (h : zW (zb_bindType ZL d x1 x2 x3 x4 S) Q) : zW (ZL d 2 [.inl x1, .inl x2, .inl x3, .inl x4] S) Q := zW_of zte (f := zf_2) rfl h
theorem zl_unit {d : Nat}  {S : ZS} {Q : Option (Option ZV) → ZS → Prop} (h : zW (zb_unit ZL d  S) Q) : zW (ZL d 3 [] S) Q := zW_of zte (f := zf_3) rfl h
theorem zl_type {d : Nat} {x1 : Int} {x2 : Int} {x3 : Int} {x4 : Int} {x5 : Int} {S : ZS} {Q : Option (Option ZV) → ZS → Prop} (h : zW (zb_type ZL d x1 x2 x3 x4 x5 S) Q) : zW (ZL d 4 [.inl x1, .inl x2, .inl x3, .inl x4, .inl x5] S) Q := zW_of zte (f := zf_4) rfl h
theorem zl_keep {d : Nat} {x1 : Int} {S : ZS} {Q : Option (Option ZV) → ZS → Prop} (h : zW (zb_keep ZL d x1 S) Q) : zW (ZL d 5 [.inl x1] S) Q := zW_of zte (f := zf_5) rfl h
theorem zl_kept0 {d : Nat} {x1 : Int} {S : ZS} {Q : Option (Option ZV) → ZS → Prop} (h : zW (zb_kept0 ZL d x1 S) Q) : zW (ZL d 6 [.inl x1] S) Q := zW_of zte (f := zf_6) rfl h
theorem zl_sign0 {d : Nat} {x1 : Int} {S : ZS} {Q : Option (Option ZV) → ZS → Prop} (h : zW (zb_sign0 ZL d x1 S) Q) : zW (ZL d 7 [.inl x1] S) Q := zW_of zte (f := zf_7) rfl h
theorem zl_find {d : Nat} {x1 : Int} {S : ZS} {Q : Option (Option ZV) → ZS → Prop} (h : zW (zb_find ZL d x1 S) Q) : zW (ZL d 8 [.inl x1] S) Q := zW_of zte (f := zf_8) rfl h
theorem zl_made {d : Nat} {x1 : Int} {S : ZS} {Q : Option (Option ZV) → ZS → Prop} (h : zW (zb_made ZL d x1 S) Q) : zW (ZL d 9 [.inl x1] S) Q := zW_of zte (f := zf_9) rfl h
theorem zl_arrow {d : Nat} {x1 : Int} {x2 : Int} {S : ZS} {Q : Option (Option ZV) → ZS → Prop} (h : zW (zb_arrow ZL d x1 x2 S) Q) : zW (ZL d 10 [.inl x1, .inl x2] S) Q := zW_of zte (f := zf_10) rfl h
theorem zl_field {d : Nat} {x1 : Int} {x2 : Int} {x3 : Int} {S : ZS} {Q : Option (Option ZV) → ZS → Prop} (h : zW (zb_field ZL d x1 x2 x3 S) Q) : zW (ZL d 11 [.inl x1, .inl x2, .inl x3] S) Q := zW_of zte (f := zf_11) rfl h
theorem zl_bind {d : Nat} {x1 : Int} {x2 : Int} {x3 : Int} {x4 : Int} {x5 : Int} {x6 : Int} {S : ZS} {Q : Option (Option ZV) → ZS → Prop} (h : zW (zb_bind ZL d x1 x2 x3 x4 x5 x6 S) Q) : zW (ZL d 12 [.inl x1, .inl x2, .inl x3, .inl x4, .inl x5, .inl x6] S) Q := zW_of zte (f := zf_12) rfl h
theorem zl_general {d : Nat} {x1 : Int} {S : ZS} {Q : Option (Option ZV) → ZS → Prop} (h : zW (zb_general ZL d x1 S) Q) : zW (ZL d 13 [.inl x1] S) Q := zW_of zte (f := zf_13) rfl h
theorem zl_made_2 {d : Nat} {x1 : Int} {x2 : Int} {S : ZS} {Q : Option (Option ZV) → ZS → Prop} (h : zW (zb_made_2 ZL d x1 x2 S) Q) : zW (ZL d 14 [.inl x1, .inl x2] S) Q := zW_of zte (f := zf_14) rfl h
theorem zl_pairType {d : Nat} {x1 : Int} {x2 : Int} {S : ZS} {Q : Option (Option ZV) → ZS → Prop} (h : zW (zb_pairType ZL d x1 x2 S) Q) : zW (ZL d 15 [.inl x1, .inl x2] S) Q := zW_of zte (f := zf_15) rfl h
theorem zl_number {d : Nat} {x0 : Int} {S : ZS} {Q : Option (Option ZV) → ZS → Prop} (h : zW (zb_number ZL d x0 S) Q) : zW (ZL d 16 [.inl x0] S) Q := zW_of zte (f := zf_16) rfl h
theorem zl_variableOf {d : Nat}  {S : ZS} {Q : Option (Option ZV) → ZS → Prop} (h : zW (zb_variableOf ZL d  S) Q) : zW (ZL d 17 [] S) Q := zW_of zte (f := zf_17) rfl h
theorem zl_slotOf {d : Nat} {x1 : Int} {S : ZS} {Q : Option (Option ZV) → ZS → Prop} (h : zW (zb_slotOf ZL d x1 S) Q) : zW (ZL d 18 [.inl x1] S) Q := zW_of zte (f := zf_18) rfl h
theorem zl_exceptionValue {d : Nat} {x1 : Int} {S : ZS} {Q : Option (Option ZV) → ZS → Prop} (h : zW (zb_exceptionValue ZL d x1 S) Q) : zW (ZL d 19 [.inl x1] S) Q := zW_of zte (f := zf_19) rfl h
theorem zl_fix {d : Nat} {x1 : Int} {x2 : Int} {x3 : Int} {S : ZS} {Q : Option (Option ZV) → ZS → Prop} (h : zW (zb_fix ZL d x1 x2 x3 S) Q) : zW (ZL d 20 [.inl x1, .inl x2, .inl x3] S) Q := zW_of zte (f := zf_20) rfl h
theorem zl_firstType {d : Nat} {x1 : Int} {S : ZS} {Q : Option (Option ZV) → ZS → Prop} (h : zW (zb_firstType ZL d x1 S) Q) : zW (ZL d 21 [.inl x1] S) Q := zW_of zte (f := zf_21) rfl h
theorem zl_withField {d : Nat} {x1 : Int} {x2 : Int} {x3 : Int} {S : ZS} {Q : Option (Option ZV) → ZS → Prop} (h : zW (zb_withField ZL d x1 x2 x3 S) Q) : zW (ZL d 22 [.inl x1, .inl x2, .inl x3] S) Q := zW_of zte (f := zf_22) rfl h
theorem zl_begin {d : Nat}  {S : ZS} {Q : Option (Option ZV) → ZS → Prop} (h : zW (zb_begin ZL d  S) Q) : zW (ZL d 23 [] S) Q := zW_of zte (f := zf_23) rfl h
theorem zl_input {d : Nat}  {S : ZS} {Q : Option (Option ZV) → ZS → Prop} (h : zW (zb_input ZL d  S) Q) : zW (ZL d 24 [] S) Q := zW_of zte (f := zf_24) rfl h
theorem zl_read {d : Nat}  {S : ZS} {Q : Option (Option ZV) → ZS → Prop} (h : zW (zb_read ZL d  S) Q) : zW (ZL d 25 [] S) Q := zW_of zte (f := zf_25) rfl h
theorem zl_gaps {d : Nat}  {S : ZS} {Q : Option (Option ZV) → ZS → Prop} (h : zW (zb_gaps ZL d  S) Q) : zW (ZL d 26 [] S) Q := zW_of zte (f := zf_26) rfl h
theorem zl_here {d : Nat}  {S : ZS} {Q : Option (Option ZV) → ZS → Prop} (h : zW (zb_here ZL d  S) Q) : zW (ZL d 27 [] S) Q := zW_of zte (f := zf_27) rfl h
theorem zl_isBlank {d : Nat} {x0 : Int} {S : ZS} {Q : Option (Option ZV) → ZS → Prop} (h : zW (zb_isBlank ZL d x0 S) Q) : zW (ZL d 28 [.inl x0] S) Q := zW_of zte (f := zf_28) rfl h
theorem zl_behind {d : Nat} {x1 : Int} {S : ZS} {Q : Option (Option ZV) → ZS → Prop} (h : zW (zb_behind ZL d x1 S) Q) : zW (ZL d 29 [.inl x1] S) Q := zW_of zte (f := zf_29) rfl h
theorem zl_isLetter {d : Nat} {x0 : Int} {S : ZS} {Q : Option (Option ZV) → ZS → Prop} (h : zW (zb_isLetter ZL d x0 S) Q) : zW (ZL d 30 [.inl x0] S) Q := zW_of zte (f := zf_30) rfl h
theorem zl_readName {d : Nat}  {S : ZS} {Q : Option (Option ZV) → ZS → Prop} (h : zW (zb_readName ZL d  S) Q) : zW (ZL d 31 [] S) Q := zW_of zte (f := zf_31) rfl h
theorem zl_goesOn {d : Nat} {x0 : Int} {S : ZS} {Q : Option (Option ZV) → ZS → Prop} (h : zW (zb_goesOn ZL d x0 S) Q) : zW (ZL d 32 [.inl x0] S) Q := zW_of zte (f := zf_32) rfl h
theorem zl_isDigit {d : Nat} {x0 : Int} {S : ZS} {Q : Option (Option ZV) → ZS → Prop} (h : zW (zb_isDigit ZL d x0 S) Q) : zW (ZL d 33 [.inl x0] S) Q := zW_of zte (f := zf_33) rfl h
theorem zl_named {d : Nat}  {S : ZS} {Q : Option (Option ZV) → ZS → Prop} (h : zW (zb_named ZL d  S) Q) : zW (ZL d 34 [] S) Q := zW_of zte (f := zf_34) rfl h
theorem zl_readVariable {d : Nat}  {S : ZS} {Q : Option (Option ZV) → ZS → Prop} (h : zW (zb_readVariable ZL d  S) Q) : zW (ZL d 35 [] S) Q := zW_of zte (f := zf_35) rfl h
theorem zl_readInt {d : Nat}  {S : ZS} {Q : Option (Option ZV) → ZS → Prop} (h : zW (zb_readInt ZL d  S) Q) : zW (ZL d 36 [] S) Q := zW_of zte (f := zf_36) rfl h
theorem zl_readString {d : Nat} {x1 : Int} {S : ZS} {Q : Option (Option ZV) → ZS → Prop} (h : zW (zb_readString ZL d x1 S) Q) : zW (ZL d 37 [.inl x1] S) Q := zW_of zte (f := zf_37) rfl h
theorem zl_pushByte {d : Nat} {x1 : Int} {S : ZS} {Q : Option (Option ZV) → ZS → Prop} (h : zW (zb_pushByte ZL d x1 S) Q) : zW (ZL d 38 [.inl x1] S) Q := zW_of zte (f := zf_38) rfl h
theorem zl_readEscape {d : Nat}  {S : ZS} {Q : Option (Option ZV) → ZS → Prop} (h : zW (zb_readEscape ZL d  S) Q) : zW (ZL d 39 [] S) Q := zW_of zte (f := zf_39) rfl h
theorem zl_isSign {d : Nat} {x0 : Int} {S : ZS} {Q : Option (Option ZV) → ZS → Prop} (h : zW (zb_isSign ZL d x0 S) Q) : zW (ZL d 40 [.inl x0] S) Q := zW_of zte (f := zf_40) rfl h
theorem zl_readSigns {d : Nat}  {S : ZS} {Q : Option (Option ZV) → ZS → Prop} (h : zW (zb_readSigns ZL d  S) Q) : zW (ZL d 41 [] S) Q := zW_of zte (f := zf_41) rfl h
theorem zl_readOther {d : Nat} {x1 : Int} {S : ZS} {Q : Option (Option ZV) → ZS → Prop} (h : zW (zb_readOther ZL d x1 S) Q) : zW (ZL d 42 [.inl x1] S) Q := zW_of zte (f := zf_42) rfl h
theorem zl_step {d : Nat}  {S : ZS} {Q : Option (Option ZV) → ZS → Prop} (h : zW (zb_step ZL d  S) Q) : zW (ZL d 43 [] S) Q := zW_of zte (f := zf_43) rfl h
theorem zl_beginsDec {d : Nat}  {S : ZS} {Q : Option (Option ZV) → ZS → Prop} (h : zW (zb_beginsDec ZL d  S) Q) : zW (ZL d 44 [] S) Q := zW_of zte (f := zf_44) rfl h
theorem zl_is {d : Nat} {x1 : Int} {S : ZS} {Q : Option (Option ZV) → ZS → Prop} (h : zW (zb_is ZL d x1 S) Q) : zW (ZL d 45 [.inl x1] S) Q := zW_of zte (f := zf_45) rfl h
theorem zl_decs {d : Nat} {x1 : Int} {S : ZS} {Q : Option (Option ZV) → ZS → Prop} (h : zW (zb_decs ZL d x1 S) Q) : zW (ZL d 46 [.inl x1] S) Q := zW_of zte (f := zf_46) rfl h
theorem zl_dec {d : Nat}  {S : ZS} {Q : Option (Option ZV) → ZS → Prop} (h : zW (zb_dec ZL d  S) Q) : zW (ZL d 47 [] S) Q := zW_of zte (f := zf_47) rfl h
theorem zl_local {d : Nat} {x1 : Int} {S : ZS} {Q : Option (Option ZV) → ZS → Prop} (h : zW (zb_local ZL d x1 S) Q) : zW (ZL d 48 [.inl x1] S) Q := zW_of zte (f := zf_48) rfl h
theorem zl_opens {d : Nat}  {S : ZS} {Q : Option (Option ZV) → ZS → Prop} (h : zW (zb_opens ZL d  S) Q) : zW (ZL d 49 [] S) Q := zW_of zte (f := zf_49) rfl h
theorem zl_need {d : Nat} {x1 : Int} {S : ZS} {Q : Option (Option ZV) → ZS → Prop} (h : zW (zb_need ZL d x1 S) Q) : zW (ZL d 50 [.inl x1] S) Q := zW_of zte (f := zf_50) rfl h
theorem zl_closes {d : Nat} {x1 : Int} {S : ZS} {Q : Option (Option ZV) → ZS → Prop} (h : zW (zb_closes ZL d x1 S) Q) : zW (ZL d 51 [.inl x1] S) Q := zW_of zte (f := zf_51) rfl h
theorem zl_node {d : Nat} {x1 : Int} {x2 : Int} {x3 : Int} {x4 : Int} {x5 : Int} {x6 : Int} {S : ZS} {Q : Option (Option ZV) → ZS → Prop} (h : zW (zb_node ZL d x1 x2 x3 x4 x5 x6 S) Q) : zW (ZL d 52 [.inl x1, .inl x2, .inl x3, .inl x4, .inl x5, .inl x6] S) Q := zW_of zte (f := zf_52) rfl h
theorem zl_has {d : Nat} {x1 : Int} {S : ZS} {Q : Option (Option ZV) → ZS → Prop} (h : zW (zb_has ZL d x1 S) Q) : zW (ZL d 53 [.inl x1] S) Q := zW_of zte (f := zf_53) rfl h
theorem zl_binds {d : Nat}  {S : ZS} {Q : Option (Option ZV) → ZS → Prop} (h : zW (zb_binds ZL d  S) Q) : zW (ZL d 54 [] S) Q := zW_of zte (f := zf_54) rfl h
theorem zl_pattern {d : Nat}  {S : ZS} {Q : Option (Option ZV) → ZS → Prop} (h : zW (zb_pattern ZL d  S) Q) : zW (ZL d 55 [] S) Q := zW_of zte (f := zf_55) rfl h
theorem zl_infixed {d : Nat} {x1 : Int} {S : ZS} {Q : Option (Option ZV) → ZS → Prop} (h : zW (zb_infixed ZL d x1 S) Q) : zW (ZL d 56 [.inl x1] S) Q := zW_of zte (f := zf_56) rfl h
theorem zl_push {d : Nat} {x1 : Int} {S : ZS} {Q : Option (Option ZV) → ZS → Prop} (h : zW (zb_push ZL d x1 S) Q) : zW (ZL d 57 [.inl x1] S) Q := zW_of zte (f := zf_57) rfl h
theorem zl_appliedPattern {d : Nat}  {S : ZS} {Q : Option (Option ZV) → ZS → Prop} (h : zW (zb_appliedPattern ZL d  S) Q) : zW (ZL d 58 [] S) Q := zW_of zte (f := zf_58) rfl h
theorem zl_isOpName {d : Nat}  {S : ZS} {Q : Option (Option ZV) → ZS → Prop} (h : zW (zb_isOpName ZL d  S) Q) : zW (ZL d 59 [] S) Q := zW_of zte (f := zf_59) rfl h
theorem zl_isInfix {d : Nat} {x1 : Int} {S : ZS} {Q : Option (Option ZV) → ZS → Prop} (h : zW (zb_isInfix ZL d x1 S) Q) : zW (ZL d 60 [.inl x1] S) Q := zW_of zte (f := zf_60) rfl h
theorem zl_fixOf {d : Nat} {x1 : Int} {S : ZS} {Q : Option (Option ZV) → ZS → Prop} (h : zW (zb_fixOf ZL d x1 S) Q) : zW (ZL d 61 [.inl x1] S) Q := zW_of zte (f := zf_61) rfl h
theorem zl_strength {d : Nat} {x1 : Int} {S : ZS} {Q : Option (Option ZV) → ZS → Prop} (h : zW (zb_strength ZL d x1 S) Q) : zW (ZL d 62 [.inl x1] S) Q := zW_of zte (f := zf_62) rfl h
theorem zl_atomPattern {d : Nat}  {S : ZS} {Q : Option (Option ZV) → ZS → Prop} (h : zW (zb_atomPattern ZL d  S) Q) : zW (ZL d 63 [] S) Q := zW_of zte (f := zf_63) rfl h
theorem zl_constant {d : Nat} {x1 : Int} {S : ZS} {Q : Option (Option ZV) → ZS → Prop} (h : zW (zb_constant ZL d x1 S) Q) : zW (ZL d 64 [.inl x1] S) Q := zW_of zte (f := zf_64) rfl h
theorem zl_patternRow {d : Nat} {x1 : Int} {S : ZS} {Q : Option (Option ZV) → ZS → Prop} (h : zW (zb_patternRow ZL d x1 S) Q) : zW (ZL d 65 [.inl x1] S) Q := zW_of zte (f := zf_65) rfl h
theorem zl_patternField {d : Nat}  {S : ZS} {Q : Option (Option ZV) → ZS → Prop} (h : zW (zb_patternField ZL d  S) Q) : zW (ZL d 66 [] S) Q := zW_of zte (f := zf_66) rfl h
theorem zl_label {d : Nat}  {S : ZS} {Q : Option (Option ZV) → ZS → Prop} (h : zW (zb_label ZL d  S) Q) : zW (ZL d 67 [] S) Q := zW_of zte (f := zf_67) rfl h
theorem zl_isLabel {d : Nat}  {S : ZS} {Q : Option (Option ZV) → ZS → Prop} (h : zW (zb_isLabel ZL d  S) Q) : zW (ZL d 68 [] S) Q := zW_of zte (f := zf_68) rfl h
theorem zl_type_2 {d : Nat}  {S : ZS} {Q : Option (Option ZV) → ZS → Prop} (h : zW (zb_type_2 ZL d  S) Q) : zW (ZL d 69 [] S) Q := zW_of zte (f := zf_69) rfl h
theorem zl_tupleType {d : Nat}  {S : ZS} {Q : Option (Option ZV) → ZS → Prop} (h : zW (zb_tupleType ZL d  S) Q) : zW (ZL d 70 [] S) Q := zW_of zte (f := zf_70) rfl h
theorem zl_suffixed {d : Nat}  {S : ZS} {Q : Option (Option ZV) → ZS → Prop} (h : zW (zb_suffixed ZL d  S) Q) : zW (ZL d 71 [] S) Q := zW_of zte (f := zf_71) rfl h
theorem zl_atomicType {d : Nat}  {S : ZS} {Q : Option (Option ZV) → ZS → Prop} (h : zW (zb_atomicType ZL d  S) Q) : zW (ZL d 72 [] S) Q := zW_of zte (f := zf_72) rfl h
theorem zl_typeRow {d : Nat} {x1 : Int} {S : ZS} {Q : Option (Option ZV) → ZS → Prop} (h : zW (zb_typeRow ZL d x1 S) Q) : zW (ZL d 73 [.inl x1] S) Q := zW_of zte (f := zf_73) rfl h
theorem zl_patternHeld {d : Nat} {x1 : Int} {x2 : Int} {S : ZS} {Q : Option (Option ZV) → ZS → Prop} (h : zW (zb_patternHeld ZL d x1 x2 S) Q) : zW (ZL d 74 [.inl x1, .inl x2] S) Q := zW_of zte (f := zf_74) rfl h
theorem zl_opName {d : Nat}  {S : ZS} {Q : Option (Option ZV) → ZS → Prop} (h : zW (zb_opName ZL d  S) Q) : zW (ZL d 75 [] S) Q := zW_of zte (f := zf_75) rfl h
theorem zl_anyName {d : Nat}  {S : ZS} {Q : Option (Option ZV) → ZS → Prop} (h : zW (zb_anyName ZL d  S) Q) : zW (ZL d 76 [] S) Q := zW_of zte (f := zf_76) rfl h
theorem zl_plainName {d : Nat}  {S : ZS} {Q : Option (Option ZV) → ZS → Prop} (h : zW (zb_plainName ZL d  S) Q) : zW (ZL d 77 [] S) Q := zW_of zte (f := zf_77) rfl h
theorem zl_beginsAtomPattern {d : Nat}  {S : ZS} {Q : Option (Option ZV) → ZS → Prop} (h : zW (zb_beginsAtomPattern ZL d  S) Q) : zW (ZL d 78 [] S) Q := zW_of zte (f := zf_78) rfl h
theorem zl_applications {d : Nat}  {S : ZS} {Q : Option (Option ZV) → ZS → Prop} (h : zW (zb_applications ZL d  S) Q) : zW (ZL d 79 [] S) Q := zW_of zte (f := zf_79) rfl h
theorem zl_atom {d : Nat}  {S : ZS} {Q : Option (Option ZV) → ZS → Prop} (h : zW (zb_atom ZL d  S) Q) : zW (ZL d 80 [] S) Q := zW_of zte (f := zf_80) rfl h
theorem zl_expressionRow {d : Nat} {x1 : Int} {S : ZS} {Q : Option (Option ZV) → ZS → Prop} (h : zW (zb_expressionRow ZL d x1 S) Q) : zW (ZL d 81 [.inl x1] S) Q := zW_of zte (f := zf_81) rfl h
theorem zl_expression {d : Nat}  {S : ZS} {Q : Option (Option ZV) → ZS → Prop} (h : zW (zb_expression ZL d  S) Q) : zW (ZL d 82 [] S) Q := zW_of zte (f := zf_82) rfl h
theorem zl_match {d : Nat}  {S : ZS} {Q : Option (Option ZV) → ZS → Prop} (h : zW (zb_match ZL d  S) Q) : zW (ZL d 83 [] S) Q := zW_of zte (f := zf_83) rfl h
theorem zl_rule {d : Nat}  {S : ZS} {Q : Option (Option ZV) → ZS → Prop} (h : zW (zb_rule ZL d  S) Q) : zW (ZL d 84 [] S) Q := zW_of zte (f := zf_84) rfl h
theorem zl_orelse {d : Nat}  {S : ZS} {Q : Option (Option ZV) → ZS → Prop} (h : zW (zb_orelse ZL d  S) Q) : zW (ZL d 85 [] S) Q := zW_of zte (f := zf_85) rfl h
theorem zl_andalso {d : Nat}  {S : ZS} {Q : Option (Option ZV) → ZS → Prop} (h : zW (zb_andalso ZL d  S) Q) : zW (ZL d 86 [] S) Q := zW_of zte (f := zf_86) rfl h
theorem zl_typed {d : Nat}  {S : ZS} {Q : Option (Option ZV) → ZS → Prop} (h : zW (zb_typed ZL d  S) Q) : zW (ZL d 87 [] S) Q := zW_of zte (f := zf_87) rfl h
theorem zl_beginsBig {d : Nat}  {S : ZS} {Q : Option (Option ZV) → ZS → Prop} (h : zW (zb_beginsBig ZL d  S) Q) : zW (ZL d 88 [] S) Q := zW_of zte (f := zf_88) rfl h
theorem zl_expressionHeld {d : Nat} {x1 : Int} {S : ZS} {Q : Option (Option ZV) → ZS → Prop} (h : zW (zb_expressionHeld ZL d x1 S) Q) : zW (ZL d 89 [.inl x1] S) Q := zW_of zte (f := zf_89) rfl h
theorem zl_row {d : Nat} {x1 : Int} {S : ZS} {Q : Option (Option ZV) → ZS → Prop} (h : zW (zb_row ZL d x1 S) Q) : zW (ZL d 90 [.inl x1] S) Q := zW_of zte (f := zf_90) rfl h
theorem zl_let {d : Nat} {x1 : Int} {S : ZS} {Q : Option (Option ZV) → ZS → Prop} (h : zW (zb_let ZL d x1 S) Q) : zW (ZL d 91 [.inl x1] S) Q := zW_of zte (f := zf_91) rfl h
theorem zl_beginsAtom {d : Nat}  {S : ZS} {Q : Option (Option ZV) → ZS → Prop} (h : zW (zb_beginsAtom ZL d  S) Q) : zW (ZL d 92 [] S) Q := zW_of zte (f := zf_92) rfl h
theorem zl_isInfixHere {d : Nat}  {S : ZS} {Q : Option (Option ZV) → ZS → Prop} (h : zW (zb_isInfixHere ZL d  S) Q) : zW (ZL d 93 [] S) Q := zW_of zte (f := zf_93) rfl h
theorem zl_isRight {d : Nat} {x1 : Int} {S : ZS} {Q : Option (Option ZV) → ZS → Prop} (h : zW (zb_isRight ZL d x1 S) Q) : zW (ZL d 94 [.inl x1] S) Q := zW_of zte (f := zf_94) rfl h
theorem zl_reduce {d : Nat} {x1 : Int} {S : ZS} {Q : Option (Option ZV) → ZS → Prop} (h : zW (zb_reduce ZL d x1 S) Q) : zW (ZL d 95 [.inl x1] S) Q := zW_of zte (f := zf_95) rfl h
theorem zl_functions {d : Nat}  {S : ZS} {Q : Option (Option ZV) → ZS → Prop} (h : zW (zb_functions ZL d  S) Q) : zW (ZL d 96 [] S) Q := zW_of zte (f := zf_96) rfl h
theorem zl_clauses {d : Nat}  {S : ZS} {Q : Option (Option ZV) → ZS → Prop} (h : zW (zb_clauses ZL d  S) Q) : zW (ZL d 97 [] S) Q := zW_of zte (f := zf_97) rfl h
theorem zl_clause {d : Nat}  {S : ZS} {Q : Option (Option ZV) → ZS → Prop} (h : zW (zb_clause ZL d  S) Q) : zW (ZL d 98 [] S) Q := zW_of zte (f := zf_98) rfl h
theorem zl_pair {d : Nat} {x1 : Int} {x2 : Int} {S : ZS} {Q : Option (Option ZV) → ZS → Prop} (h : zW (zb_pair ZL d x1 x2 S) Q) : zW (ZL d 99 [.inl x1, .inl x2] S) Q := zW_of zte (f := zf_99) rfl h
theorem zl_variables {d : Nat}  {S : ZS} {Q : Option (Option ZV) → ZS → Prop} (h : zW (zb_variables ZL d  S) Q) : zW (ZL d 100 [] S) Q := zW_of zte (f := zf_100) rfl h
theorem zl_variable {d : Nat}  {S : ZS} {Q : Option (Option ZV) → ZS → Prop} (h : zW (zb_variable ZL d  S) Q) : zW (ZL d 101 [] S) Q := zW_of zte (f := zf_101) rfl h
theorem zl_datas {d : Nat}  {S : ZS} {Q : Option (Option ZV) → ZS → Prop} (h : zW (zb_datas ZL d  S) Q) : zW (ZL d 102 [] S) Q := zW_of zte (f := zf_102) rfl h
theorem zl_constructors {d : Nat}  {S : ZS} {Q : Option (Option ZV) → ZS → Prop} (h : zW (zb_constructors ZL d  S) Q) : zW (ZL d 103 [] S) Q := zW_of zte (f := zf_103) rfl h
theorem zl_freeName {d : Nat}  {S : ZS} {Q : Option (Option ZV) → ZS → Prop} (h : zW (zb_freeName ZL d  S) Q) : zW (ZL d 104 [] S) Q := zW_of zte (f := zf_104) rfl h
theorem zl_exception {d : Nat} {x1 : Int} {S : ZS} {Q : Option (Option ZV) → ZS → Prop} (h : zW (zb_exception ZL d x1 S) Q) : zW (ZL d 105 [.inl x1] S) Q := zW_of zte (f := zf_105) rfl h
theorem zl_infixes {d : Nat} {x1 : Int} {x2 : Int} {S : ZS} {Q : Option (Option ZV) → ZS → Prop} (h : zW (zb_infixes ZL d x1 x2 S) Q) : zW (ZL d 106 [.inl x1, .inl x2] S) Q := zW_of zte (f := zf_106) rfl h
theorem zl_valuesAtBegin {d : Nat}  {S : ZS} {Q : Option (Option ZV) → ZS → Prop} (h : zW (zb_valuesAtBegin ZL d  S) Q) : zW (ZL d 107 [] S) Q := zW_of zte (f := zf_107) rfl h
theorem zl_beginCode {d : Nat} {x1 : Int} {x2 : Int} {S : ZS} {Q : Option (Option ZV) → ZS → Prop} (h : zW (zb_beginCode ZL d x1 x2 S) Q) : zW (ZL d 108 [.inl x1, .inl x2] S) Q := zW_of zte (f := zf_108) rfl h
theorem zl_judgedDec {d : Nat} {x1 : Int} {S : ZS} {Q : Option (Option ZV) → ZS → Prop} (h : zW (zb_judgedDec ZL d x1 S) Q) : zW (ZL d 109 [.inl x1] S) Q := zW_of zte (f := zf_109) rfl h
theorem zl_judgedVal {d : Nat} {x1 : Int} {S : ZS} {Q : Option (Option ZV) → ZS → Prop} (h : zW (zb_judgedVal ZL d x1 S) Q) : zW (ZL d 110 [.inl x1] S) Q := zW_of zte (f := zf_110) rfl h
theorem zl_enterVariables {d : Nat} {x1 : Int} {S : ZS} {Q : Option (Option ZV) → ZS → Prop} (h : zW (zb_enterVariables ZL d x1 S) Q) : zW (ZL d 111 [.inl x1] S) Q := zW_of zte (f := zf_111) rfl h
theorem zl_lookAll {d : Nat} {x1 : Int} {x2 : Int} {S : ZS} {Q : Option (Option ZV) → ZS → Prop} (h : zW (zb_lookAll ZL d x1 x2 S) Q) : zW (ZL d 112 [.inl x1, .inl x2] S) Q := zW_of zte (f := zf_112) rfl h
theorem zl_look {d : Nat} {x1 : Int} {x2 : Int} {S : ZS} {Q : Option (Option ZV) → ZS → Prop} (h : zW (zb_look ZL d x1 x2 S) Q) : zW (ZL d 113 [.inl x1, .inl x2] S) Q := zW_of zte (f := zf_113) rfl h
theorem zl_found {d : Nat} {x1 : Int} {x2 : Int} {S : ZS} {Q : Option (Option ZV) → ZS → Prop} (h : zW (zb_found ZL d x1 x2 S) Q) : zW (ZL d 114 [.inl x1, .inl x2] S) Q := zW_of zte (f := zf_114) rfl h
theorem zl_judgedPattern {d : Nat} {x1 : Int} {S : ZS} {Q : Option (Option ZV) → ZS → Prop} (h : zW (zb_judgedPattern ZL d x1 S) Q) : zW (ZL d 115 [.inl x1] S) Q := zW_of zte (f := zf_115) rfl h
theorem zl_unknown {d : Nat}  {S : ZS} {Q : Option (Option ZV) → ZS → Prop} (h : zW (zb_unknown ZL d  S) Q) : zW (ZL d 116 [] S) Q := zW_of zte (f := zf_116) rfl h
theorem zl_patternName {d : Nat} {x1 : Int} {S : ZS} {Q : Option (Option ZV) → ZS → Prop} (h : zW (zb_patternName ZL d x1 S) Q) : zW (ZL d 117 [.inl x1] S) Q := zW_of zte (f := zf_117) rfl h
theorem zl_valueOf {d : Nat} {x1 : Int} {S : ZS} {Q : Option (Option ZV) → ZS → Prop} (h : zW (zb_valueOf ZL d x1 S) Q) : zW (ZL d 118 [.inl x1] S) Q := zW_of zte (f := zf_118) rfl h
theorem zl_hasArgument {d : Nat} {x1 : Int} {S : ZS} {Q : Option (Option ZV) → ZS → Prop} (h : zW (zb_hasArgument ZL d x1 S) Q) : zW (ZL d 119 [.inl x1] S) Q := zW_of zte (f := zf_119) rfl h
theorem zl_meet {d : Nat} {x1 : Int} {x2 : Int} {S : ZS} {Q : Option (Option ZV) → ZS → Prop} (h : zW (zb_meet ZL d x1 x2 S) Q) : zW (ZL d 120 [.inl x1, .inl x2] S) Q := zW_of zte (f := zf_120) rfl h
theorem zl_use {d : Nat} {x1 : Int} {x2 : Int} {S : ZS} {Q : Option (Option ZV) → ZS → Prop} (h : zW (zb_use ZL d x1 x2 S) Q) : zW (ZL d 121 [.inl x1, .inl x2] S) Q := zW_of zte (f := zf_121) rfl h
theorem zl_isTop {d : Nat} {x1 : Int} {S : ZS} {Q : Option (Option ZV) → ZS → Prop} (h : zW (zb_isTop ZL d x1 S) Q) : zW (ZL d 122 [.inl x1] S) Q := zW_of zte (f := zf_122) rfl h
theorem zl_ownerOf {d : Nat} {x1 : Int} {S : ZS} {Q : Option (Option ZV) → ZS → Prop} (h : zW (zb_ownerOf ZL d x1 S) Q) : zW (ZL d 123 [.inl x1] S) Q := zW_of zte (f := zf_123) rfl h
theorem zl_isUsed {d : Nat} {x1 : Int} {x2 : Int} {S : ZS} {Q : Option (Option ZV) → ZS → Prop} (h : zW (zb_isUsed ZL d x1 x2 S) Q) : zW (ZL d 124 [.inl x1, .inl x2] S) Q := zW_of zte (f := zf_124) rfl h
theorem zl_instance {d : Nat} {x1 : Int} {S : ZS} {Q : Option (Option ZV) → ZS → Prop} (h : zW (zb_instance ZL d x1 S) Q) : zW (ZL d 125 [.inl x1] S) Q := zW_of zte (f := zf_125) rfl h
theorem zl_made0 {d : Nat} {x1 : Int} {S : ZS} {Q : Option (Option ZV) → ZS → Prop} (h : zW (zb_made0 ZL d x1 S) Q) : zW (ZL d 126 [.inl x1] S) Q := zW_of zte (f := zf_126) rfl h
theorem zl_madeFrom {d : Nat} {x1 : Int} {x2 : Int} {S : ZS} {Q : Option (Option ZV) → ZS → Prop} (h : zW (zb_madeFrom ZL d x1 x2 S) Q) : zW (ZL d 127 [.inl x1, .inl x2] S) Q := zW_of zte (f := zf_127) rfl h
theorem zl_readSign {d : Nat} {x1 : Int} {S : ZS} {Q : Option (Option ZV) → ZS → Prop} (h : zW (zb_readSign ZL d x1 S) Q) : zW (ZL d 128 [.inl x1] S) Q := zW_of zte (f := zf_128) rfl h
theorem zl_instanceOf {d : Nat} {x1 : Int} {S : ZS} {Q : Option (Option ZV) → ZS → Prop} (h : zW (zb_instanceOf ZL d x1 S) Q) : zW (ZL d 129 [.inl x1] S) Q := zW_of zte (f := zf_129) rfl h
theorem zl_enter {d : Nat} {x1 : Int} {x2 : Int} {S : ZS} {Q : Option (Option ZV) → ZS → Prop} (h : zW (zb_enter ZL d x1 x2 S) Q) : zW (ZL d 130 [.inl x1, .inl x2] S) Q := zW_of zte (f := zf_130) rfl h
theorem zl_copied {d : Nat} {x1 : Int} {S : ZS} {Q : Option (Option ZV) → ZS → Prop} (h : zW (zb_copied ZL d x1 S) Q) : zW (ZL d 131 [.inl x1] S) Q := zW_of zte (f := zf_131) rfl h
theorem zl_pend {d : Nat} {x1 : Int} {x2 : Int} {S : ZS} {Q : Option (Option ZV) → ZS → Prop} (h : zW (zb_pend ZL d x1 x2 S) Q) : zW (ZL d 132 [.inl x1, .inl x2] S) Q := zW_of zte (f := zf_132) rfl h
theorem zl_isFixed {d : Nat} {x1 : Int} {S : ZS} {Q : Option (Option ZV) → ZS → Prop} (h : zW (zb_isFixed ZL d x1 S) Q) : zW (ZL d 133 [.inl x1] S) Q := zW_of zte (f := zf_133) rfl h
theorem zl_countTop {d : Nat} {x1 : Int} {S : ZS} {Q : Option (Option ZV) → ZS → Prop} (h : zW (zb_countTop ZL d x1 S) Q) : zW (ZL d 134 [.inl x1] S) Q := zW_of zte (f := zf_134) rfl h
theorem zl_patternCon {d : Nat} {x1 : Int} {S : ZS} {Q : Option (Option ZV) → ZS → Prop} (h : zW (zb_patternCon ZL d x1 S) Q) : zW (ZL d 135 [.inl x1] S) Q := zW_of zte (f := zf_135) rfl h
theorem zl_join {d : Nat} {x1 : Int} {x2 : Int} {x3 : Int} {S : ZS} {Q : Option (Option ZV) → ZS → Prop} (h : zW (zb_join ZL d x1 x2 x3 S) Q) : zW (ZL d 136 [.inl x1, .inl x2, .inl x3] S) Q := zW_of zte (f := zf_136) rfl h
theorem zl_joined {d : Nat} {x1 : Int} {x2 : Int} {S : ZS} {Q : Option (Option ZV) → ZS → Prop} (h : zW (zb_joined ZL d x1 x2 S) Q) : zW (ZL d 137 [.inl x1, .inl x2] S) Q := zW_of zte (f := zf_137) rfl h
theorem zl_later {d : Nat} {x1 : Int} {x2 : Int} {S : ZS} {Q : Option (Option ZV) → ZS → Prop} (h : zW (zb_later ZL d x1 x2 S) Q) : zW (ZL d 138 [.inl x1, .inl x2] S) Q := zW_of zte (f := zf_138) rfl h
theorem zl_merge {d : Nat} {x1 : Int} {x2 : Int} {S : ZS} {Q : Option (Option ZV) → ZS → Prop} (h : zW (zb_merge ZL d x1 x2 S) Q) : zW (ZL d 139 [.inl x1, .inl x2] S) Q := zW_of zte (f := zf_139) rfl h
theorem zl_becomes {d : Nat} {x1 : Int} {x2 : Int} {S : ZS} {Q : Option (Option ZV) → ZS → Prop} (h : zW (zb_becomes ZL d x1 x2 S) Q) : zW (ZL d 140 [.inl x1, .inl x2] S) Q := zW_of zte (f := zf_140) rfl h
theorem zl_isOrdered {d : Nat} {x1 : Int} {S : ZS} {Q : Option (Option ZV) → ZS → Prop} (h : zW (zb_isOrdered ZL d x1 S) Q) : zW (ZL d 141 [.inl x1] S) Q := zW_of zte (f := zf_141) rfl h
theorem zl_mergeRows {d : Nat} {x1 : Int} {x2 : Int} {S : ZS} {Q : Option (Option ZV) → ZS → Prop} (h : zW (zb_mergeRows ZL d x1 x2 S) Q) : zW (ZL d 142 [.inl x1, .inl x2] S) Q := zW_of zte (f := zf_142) rfl h
theorem zl_partOf {d : Nat} {x1 : Int} {x2 : Int} {S : ZS} {Q : Option (Option ZV) → ZS → Prop} (h : zW (zb_partOf ZL d x1 x2 S) Q) : zW (ZL d 143 [.inl x1, .inl x2] S) Q := zW_of zte (f := zf_143) rfl h
theorem zl_allFields {d : Nat} {x1 : Int} {x2 : Int} {S : ZS} {Q : Option (Option ZV) → ZS → Prop} (h : zW (zb_allFields ZL d x1 x2 S) Q) : zW (ZL d 144 [.inl x1, .inl x2] S) Q := zW_of zte (f := zf_144) rfl h
theorem zl_fieldsFrom {d : Nat} {x1 : Int} {S : ZS} {Q : Option (Option ZV) → ZS → Prop} (h : zW (zb_fieldsFrom ZL d x1 S) Q) : zW (ZL d 145 [.inl x1] S) Q := zW_of zte (f := zf_145) rfl h
theorem zl_mergeMade {d : Nat} {x1 : Int} {x2 : Int} {S : ZS} {Q : Option (Option ZV) → ZS → Prop} (h : zW (zb_mergeMade ZL d x1 x2 S) Q) : zW (ZL d 146 [.inl x1, .inl x2] S) Q := zW_of zte (f := zf_146) rfl h
theorem zl_isEndless {d : Nat} {x1 : Int} {S : ZS} {Q : Option (Option ZV) → ZS → Prop} (h : zW (zb_isEndless ZL d x1 S) Q) : zW (ZL d 147 [.inl x1] S) Q := zW_of zte (f := zf_147) rfl h
theorem zl_admit {d : Nat}  {S : ZS} {Q : Option (Option ZV) → ZS → Prop} (h : zW (zb_admit ZL d  S) Q) : zW (ZL d 148 [] S) Q := zW_of zte (f := zf_148) rfl h
theorem zl_isEqualVariable {d : Nat} {x1 : Int} {S : ZS} {Q : Option (Option ZV) → ZS → Prop} (h : zW (zb_isEqualVariable ZL d x1 S) Q) : zW (ZL d 149 [.inl x1] S) Q := zW_of zte (f := zf_149) rfl h
theorem zl_asks {d : Nat} {x1 : Int} {S : ZS} {Q : Option (Option ZV) → ZS → Prop} (h : zW (zb_asks ZL d x1 S) Q) : zW (ZL d 150 [.inl x1] S) Q := zW_of zte (f := zf_150) rfl h
theorem zl_patternTuple {d : Nat} {x1 : Int} {S : ZS} {Q : Option (Option ZV) → ZS → Prop} (h : zW (zb_patternTuple ZL d x1 S) Q) : zW (ZL d 151 [.inl x1] S) Q := zW_of zte (f := zf_151) rfl h
theorem zl_patternParts {d : Nat} {x1 : Int} {S : ZS} {Q : Option (Option ZV) → ZS → Prop} (h : zW (zb_patternParts ZL d x1 S) Q) : zW (ZL d 152 [.inl x1] S) Q := zW_of zte (f := zf_152) rfl h
theorem zl_patternList {d : Nat} {x1 : Int} {S : ZS} {Q : Option (Option ZV) → ZS → Prop} (h : zW (zb_patternList ZL d x1 S) Q) : zW (ZL d 153 [.inl x1] S) Q := zW_of zte (f := zf_153) rfl h
theorem zl_meant {d : Nat} {x1 : Int} {S : ZS} {Q : Option (Option ZV) → ZS → Prop} (h : zW (zb_meant ZL d x1 S) Q) : zW (ZL d 154 [.inl x1] S) Q := zW_of zte (f := zf_154) rfl h
theorem zl_toldVariable {d : Nat} {x1 : Int} {S : ZS} {Q : Option (Option ZV) → ZS → Prop} (h : zW (zb_toldVariable ZL d x1 S) Q) : zW (ZL d 155 [.inl x1] S) Q := zW_of zte (f := zf_155) rfl h
theorem zl_toldName {d : Nat} {x1 : Int} {S : ZS} {Q : Option (Option ZV) → ZS → Prop} (h : zW (zb_toldName ZL d x1 S) Q) : zW (ZL d 156 [.inl x1] S) Q := zW_of zte (f := zf_156) rfl h
theorem zl_toldOne {d : Nat} {x1 : Int} {x2 : Int} {S : ZS} {Q : Option (Option ZV) → ZS → Prop} (h : zW (zb_toldOne ZL d x1 x2 S) Q) : zW (ZL d 157 [.inl x1, .inl x2] S) Q := zW_of zte (f := zf_157) rfl h
theorem zl_typeNamed {d : Nat} {x1 : Int} {S : ZS} {Q : Option (Option ZV) → ZS → Prop} (h : zW (zb_typeNamed ZL d x1 S) Q) : zW (ZL d 158 [.inl x1] S) Q := zW_of zte (f := zf_158) rfl h
theorem zl_standsFor {d : Nat} {x1 : Int} {x2 : Int} {S : ZS} {Q : Option (Option ZV) → ZS → Prop} (h : zW (zb_standsFor ZL d x1 x2 S) Q) : zW (ZL d 159 [.inl x1, .inl x2] S) Q := zW_of zte (f := zf_159) rfl h
theorem zl_toldRow {d : Nat} {x1 : Int} {S : ZS} {Q : Option (Option ZV) → ZS → Prop} (h : zW (zb_toldRow ZL d x1 S) Q) : zW (ZL d 160 [.inl x1] S) Q := zW_of zte (f := zf_160) rfl h
theorem zl_patternAs {d : Nat} {x1 : Int} {S : ZS} {Q : Option (Option ZV) → ZS → Prop} (h : zW (zb_patternAs ZL d x1 S) Q) : zW (ZL d 161 [.inl x1] S) Q := zW_of zte (f := zf_161) rfl h
theorem zl_judged {d : Nat} {x1 : Int} {S : ZS} {Q : Option (Option ZV) → ZS → Prop} (h : zW (zb_judged ZL d x1 S) Q) : zW (ZL d 162 [.inl x1] S) Q := zW_of zte (f := zf_162) rfl h
theorem zl_judgedName {d : Nat} {x1 : Int} {x2 : Int} {x3 : Int} {S : ZS} {Q : Option (Option ZV) → ZS → Prop} (h : zW (zb_judgedName ZL d x1 x2 x3 S) Q) : zW (ZL d 163 [.inl x1, .inl x2, .inl x3] S) Q := zW_of zte (f := zf_163) rfl h
theorem zl_judgedRow {d : Nat} {x1 : Int} {S : ZS} {Q : Option (Option ZV) → ZS → Prop} (h : zW (zb_judgedRow ZL d x1 S) Q) : zW (ZL d 164 [.inl x1] S) Q := zW_of zte (f := zf_164) rfl h
theorem zl_judgedTuple {d : Nat} {x1 : Int} {S : ZS} {Q : Option (Option ZV) → ZS → Prop} (h : zW (zb_judgedTuple ZL d x1 S) Q) : zW (ZL d 165 [.inl x1] S) Q := zW_of zte (f := zf_165) rfl h
theorem zl_judgedApplication {d : Nat} {x1 : Int} {S : ZS} {Q : Option (Option ZV) → ZS → Prop} (h : zW (zb_judgedApplication ZL d x1 S) Q) : zW (ZL d 166 [.inl x1] S) Q := zW_of zte (f := zf_166) rfl h
theorem zl_judgedInfix {d : Nat} {x1 : Int} {S : ZS} {Q : Option (Option ZV) → ZS → Prop} (h : zW (zb_judgedInfix ZL d x1 S) Q) : zW (ZL d 167 [.inl x1] S) Q := zW_of zte (f := zf_167) rfl h
theorem zl_judgedIf {d : Nat} {x1 : Int} {S : ZS} {Q : Option (Option ZV) → ZS → Prop} (h : zW (zb_judgedIf ZL d x1 S) Q) : zW (ZL d 168 [.inl x1] S) Q := zW_of zte (f := zf_168) rfl h
theorem zl_rules {d : Nat} {x1 : Int} {x2 : Int} {x3 : Int} {x4 : Int} {S : ZS} {Q : Option (Option ZV) → ZS → Prop} (h : zW (zb_rules ZL d x1 x2 x3 x4 S) Q) : zW (ZL d 169 [.inl x1, .inl x2, .inl x3, .inl x4] S) Q := zW_of zte (f := zf_169) rfl h
theorem zl_bindPending {d : Nat} {x1 : Int} {S : ZS} {Q : Option (Option ZV) → ZS → Prop} (h : zW (zb_bindPending ZL d x1 S) Q) : zW (ZL d 170 [.inl x1] S) Q := zW_of zte (f := zf_170) rfl h
theorem zl_countOf {d : Nat} {x1 : Int} {S : ZS} {Q : Option (Option ZV) → ZS → Prop} (h : zW (zb_countOf ZL d x1 S) Q) : zW (ZL d 171 [.inl x1] S) Q := zW_of zte (f := zf_171) rfl h
theorem zl_times {d : Nat} {x1 : Int} {x3 : Int} {x4 : Int} {S : ZS} {Q : Option (Option ZV) → ZS → Prop} (h : zW (zb_times ZL d x1 x3 x4 S) Q) : zW (ZL d 172 [.inr (.inl x1), .inl x3, .inl x4] S) Q := zW_of zte (f := zf_172) rfl h
theorem zl_match_2 {d : Nat} {x1 : Int} {x2 : Int} {S : ZS} {Q : Option (Option ZV) → ZS → Prop} (h : zW (zb_match_2 ZL d x1 x2 S) Q) : zW (ZL d 173 [.inl x1, .inl x2] S) Q := zW_of zte (f := zf_173) rfl h
theorem zl_judgedFn {d : Nat} {x1 : Int} {S : ZS} {Q : Option (Option ZV) → ZS → Prop} (h : zW (zb_judgedFn ZL d x1 S) Q) : zW (ZL d 174 [.inl x1] S) Q := zW_of zte (f := zf_174) rfl h
theorem zl_endCode {d : Nat} {x1 : Int} {S : ZS} {Q : Option (Option ZV) → ZS → Prop} (h : zW (zb_endCode ZL d x1 S) Q) : zW (ZL d 175 [.inl x1] S) Q := zW_of zte (f := zf_175) rfl h
theorem zl_judgedOther {d : Nat} {x1 : Int} {S : ZS} {Q : Option (Option ZV) → ZS → Prop} (h : zW (zb_judgedOther ZL d x1 S) Q) : zW (ZL d 176 [.inl x1] S) Q := zW_of zte (f := zf_176) rfl h
theorem zl_judgedSequence {d : Nat} {x1 : Int} {S : ZS} {Q : Option (Option ZV) → ZS → Prop} (h : zW (zb_judgedSequence ZL d x1 S) Q) : zW (ZL d 177 [.inl x1] S) Q := zW_of zte (f := zf_177) rfl h
theorem zl_judgedLet {d : Nat} {x1 : Int} {S : ZS} {Q : Option (Option ZV) → ZS → Prop} (h : zW (zb_judgedLet ZL d x1 S) Q) : zW (ZL d 178 [.inl x1] S) Q := zW_of zte (f := zf_178) rfl h
theorem zl_does {d : Nat} {x1 : Int} {S : ZS} {Q : Option (Option ZV) → ZS → Prop} (h : zW (zb_does ZL d x1 S) Q) : zW (ZL d 179 [.inl x1] S) Q := zW_of zte (f := zf_179) rfl h
theorem zl_isMaker {d : Nat} {x1 : Int} {S : ZS} {Q : Option (Option ZV) → ZS → Prop} (h : zW (zb_isMaker ZL d x1 S) Q) : zW (ZL d 180 [.inl x1] S) Q := zW_of zte (f := zf_180) rfl h
theorem zl_kindIn {d : Nat} {x1 : Int} {S : ZS} {Q : Option (Option ZV) → ZS → Prop} (h : zW (zb_kindIn ZL d x1 S) Q) : zW (ZL d 181 [.inl x1] S) Q := zW_of zte (f := zf_181) rfl h
theorem zl_infoIn {d : Nat} {x1 : Int} {S : ZS} {Q : Option (Option ZV) → ZS → Prop} (h : zW (zb_infoIn ZL d x1 S) Q) : zW (ZL d 182 [.inl x1] S) Q := zW_of zte (f := zf_182) rfl h
theorem zl_through {d : Nat} {x1 : Int} {x2 : Int} {x3 : Int} {S : ZS} {Q : Option (Option ZV) → ZS → Prop} (h : zW (zb_through ZL d x1 x2 x3 S) Q) : zW (ZL d 183 [.inl x1, .inl x2, .inl x3] S) Q := zW_of zte (f := zf_183) rfl h
theorem zl_sizeOf {d : Nat} {x1 : Int} {S : ZS} {Q : Option (Option ZV) → ZS → Prop} (h : zW (zb_sizeOf ZL d x1 S) Q) : zW (ZL d 184 [.inl x1] S) Q := zW_of zte (f := zf_184) rfl h
theorem zl_enterSize {d : Nat} {x1 : Int} {x2 : Int} {S : ZS} {Q : Option (Option ZV) → ZS → Prop} (h : zW (zb_enterSize ZL d x1 x2 S) Q) : zW (ZL d 185 [.inl x1, .inl x2] S) Q := zW_of zte (f := zf_185) rfl h
theorem zl_markRim {d : Nat} {x1 : Int} {x2 : Int} {S : ZS} {Q : Option (Option ZV) → ZS → Prop} (h : zW (zb_markRim ZL d x1 x2 S) Q) : zW (ZL d 186 [.inl x1, .inl x2] S) Q := zW_of zte (f := zf_186) rfl h
theorem zl_spreadRim {d : Nat} {x1 : Int} {x2 : Int} {S : ZS} {Q : Option (Option ZV) → ZS → Prop} (h : zW (zb_spreadRim ZL d x1 x2 S) Q) : zW (ZL d 187 [.inl x1, .inl x2] S) Q := zW_of zte (f := zf_187) rfl h
theorem zl_generalise {d : Nat} {x1 : Int} {S : ZS} {Q : Option (Option ZV) → ZS → Prop} (h : zW (zb_generalise ZL d x1 S) Q) : zW (ZL d 188 [.inl x1] S) Q := zW_of zte (f := zf_188) rfl h
theorem zl_bindLines {d : Nat} {x1 : Int} {S : ZS} {Q : Option (Option ZV) → ZS → Prop} (h : zW (zb_bindLines ZL d x1 S) Q) : zW (ZL d 189 [.inl x1] S) Q := zW_of zte (f := zf_189) rfl h
theorem zl_line {d : Nat} {x1 : Int} {x2 : Int} {S : ZS} {Q : Option (Option ZV) → ZS → Prop} (h : zW (zb_line ZL d x1 x2 S) Q) : zW (ZL d 190 [.inl x1, .inl x2] S) Q := zW_of zte (f := zf_190) rfl h
theorem zl_judgedRec {d : Nat} {x1 : Int} {S : ZS} {Q : Option (Option ZV) → ZS → Prop} (h : zW (zb_judgedRec ZL d x1 S) Q) : zW (ZL d 191 [.inl x1] S) Q := zW_of zte (f := zf_191) rfl h
theorem zl_judgedFun {d : Nat} {x1 : Int} {S : ZS} {Q : Option (Option ZV) → ZS → Prop} (h : zW (zb_judgedFun ZL d x1 S) Q) : zW (ZL d 192 [.inl x1] S) Q := zW_of zte (f := zf_192) rfl h
theorem zl_judgedFunction {d : Nat} {x1 : Int} {x2 : Int} {S : ZS} {Q : Option (Option ZV) → ZS → Prop} (h : zW (zb_judgedFunction ZL d x1 x2 S) Q) : zW (ZL d 193 [.inl x1, .inl x2] S) Q := zW_of zte (f := zf_193) rfl h
theorem zl_judgedClause {d : Nat} {x1 : Int} {x2 : Int} {x3 : Int} {x4 : Int} {x5 : Int} {S : ZS} {Q : Option (Option ZV) → ZS → Prop} (h : zW (zb_judgedClause ZL d x1 x2 x3 x4 x5 S) Q) : zW (ZL d 194 [.inl x1, .inl x2, .inl x3, .inl x4, .inl x5] S) Q := zW_of zte (f := zf_194) rfl h
theorem zl_judgedType {d : Nat} {x1 : Int} {S : ZS} {Q : Option (Option ZV) → ZS → Prop} (h : zW (zb_judgedType ZL d x1 S) Q) : zW (ZL d 195 [.inl x1] S) Q := zW_of zte (f := zf_195) rfl h
theorem zl_listed {d : Nat} {x1 : Int} {S : ZS} {Q : Option (Option ZV) → ZS → Prop} (h : zW (zb_listed ZL d x1 S) Q) : zW (ZL d 196 [.inl x1] S) Q := zW_of zte (f := zf_196) rfl h
theorem zl_judgedData {d : Nat} {x1 : Int} {S : ZS} {Q : Option (Option ZV) → ZS → Prop} (h : zW (zb_judgedData ZL d x1 S) Q) : zW (ZL d 197 [.inl x1] S) Q := zW_of zte (f := zf_197) rfl h
theorem zl_judgedCons {d : Nat} {x1 : Int} {x2 : Int} {S : ZS} {Q : Option (Option ZV) → ZS → Prop} (h : zW (zb_judgedCons ZL d x1 x2 S) Q) : zW (ZL d 198 [.inl x1, .inl x2] S) Q := zW_of zte (f := zf_198) rfl h
theorem zl_conOf {d : Nat} {x1 : Int} {S : ZS} {Q : Option (Option ZV) → ZS → Prop} (h : zW (zb_conOf ZL d x1 S) Q) : zW (ZL d 199 [.inl x1] S) Q := zW_of zte (f := zf_199) rfl h
theorem zl_hasPart0 {d : Nat} {x1 : Int} {S : ZS} {Q : Option (Option ZV) → ZS → Prop} (h : zW (zb_hasPart0 ZL d x1 S) Q) : zW (ZL d 200 [.inl x1] S) Q := zW_of zte (f := zf_200) rfl h
theorem zl_admits {d : Nat} {x1 : Int} {S : ZS} {Q : Option (Option ZV) → ZS → Prop} (h : zW (zb_admits ZL d x1 S) Q) : zW (ZL d 201 [.inl x1] S) Q := zW_of zte (f := zf_201) rfl h
theorem zl_judgedException {d : Nat} {x1 : Int} {S : ZS} {Q : Option (Option ZV) → ZS → Prop} (h : zW (zb_judgedException ZL d x1 S) Q) : zW (ZL d 202 [.inl x1] S) Q := zW_of zte (f := zf_202) rfl h
theorem zl_judgedSame {d : Nat} {x1 : Int} {S : ZS} {Q : Option (Option ZV) → ZS → Prop} (h : zW (zb_judgedSame ZL d x1 S) Q) : zW (ZL d 203 [.inl x1] S) Q := zW_of zte (f := zf_203) rfl h
theorem zl_judgedLocal {d : Nat} {x1 : Int} {S : ZS} {Q : Option (Option ZV) → ZS → Prop} (h : zW (zb_judgedLocal ZL d x1 S) Q) : zW (ZL d 204 [.inl x1] S) Q := zW_of zte (f := zf_204) rfl h
theorem zl_finish {d : Nat}  {S : ZS} {Q : Option (Option ZV) → ZS → Prop} (h : zW (zb_finish ZL d  S) Q) : zW (ZL d 205 [] S) Q := zW_of zte (f := zf_205) rfl h
theorem zl_hasUnknown {d : Nat} {x1 : Int} {S : ZS} {Q : Option (Option ZV) → ZS → Prop} (h : zW (zb_hasUnknown ZL d x1 S) Q) : zW (ZL d 206 [.inl x1] S) Q := zW_of zte (f := zf_206) rfl h
theorem zl_noteAll {d : Nat}  {S : ZS} {Q : Option (Option ZV) → ZS → Prop} (h : zW (zb_noteAll ZL d  S) Q) : zW (ZL d 207 [] S) Q := zW_of zte (f := zf_207) rfl h
theorem zl_isUseful {d : Nat} {x1 : Int} {x2 : Int} {x3 : Int} {x4 : Int} {S : ZS} {Q : Option (Option ZV) → ZS → Prop} (h : zW (zb_isUseful ZL d x1 x2 x3 x4 S) Q) : zW (ZL d 208 [.inl x1, .inl x2, .inl x3, .inl x4] S) Q := zW_of zte (f := zf_208) rfl h
theorem zl_usefulHere {d : Nat} {x1 : Int} {S : ZS} {Q : Option (Option ZV) → ZS → Prop} (h : zW (zb_usefulHere ZL d x1 S) Q) : zW (ZL d 209 [.inl x1] S) Q := zW_of zte (f := zf_209) rfl h
theorem zl_takesAll {d : Nat}  {S : ZS} {Q : Option (Option ZV) → ZS → Prop} (h : zW (zb_takesAll ZL d  S) Q) : zW (ZL d 210 [] S) Q := zW_of zte (f := zf_210) rfl h
theorem zl_normal {d : Nat} {x1 : Int} {S : ZS} {Q : Option (Option ZV) → ZS → Prop} (h : zW (zb_normal ZL d x1 S) Q) : zW (ZL d 211 [.inl x1] S) Q := zW_of zte (f := zf_211) rfl h
theorem zl_bare0 {d : Nat} {x1 : Int} {S : ZS} {Q : Option (Option ZV) → ZS → Prop} (h : zW (zb_bare0 ZL d x1 S) Q) : zW (ZL d 212 [.inl x1] S) Q := zW_of zte (f := zf_212) rfl h
theorem zl_headOf {d : Nat} {x1 : Int} {S : ZS} {Q : Option (Option ZV) → ZS → Prop} (h : zW (zb_headOf ZL d x1 S) Q) : zW (ZL d 213 [.inl x1] S) Q := zW_of zte (f := zf_213) rfl h
theorem zl_rowStep {d : Nat}  {S : ZS} {Q : Option (Option ZV) → ZS → Prop} (h : zW (zb_rowStep ZL d  S) Q) : zW (ZL d 214 [] S) Q := zW_of zte (f := zf_214) rfl h
theorem zl_labelsOf {d : Nat} {x1 : Int} {S : ZS} {Q : Option (Option ZV) → ZS → Prop} (h : zW (zb_labelsOf ZL d x1 S) Q) : zW (ZL d 215 [.inl x1] S) Q := zW_of zte (f := zf_215) rfl h
theorem zl_partAt {d : Nat} {x1 : Int} {x2 : Int} {S : ZS} {Q : Option (Option ZV) → ZS → Prop} (h : zW (zb_partAt ZL d x1 x2 S) Q) : zW (ZL d 216 [.inl x1, .inl x2] S) Q := zW_of zte (f := zf_216) rfl h
theorem zl_hasLabel {d : Nat} {x1 : Int} {S : ZS} {Q : Option (Option ZV) → ZS → Prop} (h : zW (zb_hasLabel ZL d x1 S) Q) : zW (ZL d 217 [.inl x1] S) Q := zW_of zte (f := zf_217) rfl h
theorem zl_hasPart {d : Nat} {x1 : Int} {S : ZS} {Q : Option (Option ZV) → ZS → Prop} (h : zW (zb_hasPart ZL d x1 S) Q) : zW (ZL d 218 [.inl x1] S) Q := zW_of zte (f := zf_218) rfl h
theorem zl_narrowed {d : Nat} {x1 : Int} {x2 : Int} {S : ZS} {Q : Option (Option ZV) → ZS → Prop} (h : zW (zb_narrowed ZL d x1 x2 S) Q) : zW (ZL d 219 [.inl x1, .inl x2] S) Q := zW_of zte (f := zf_219) rfl h
theorem zl_agrees {d : Nat} {x1 : Int} {x2 : Int} {S : ZS} {Q : Option (Option ZV) → ZS → Prop} (h : zW (zb_agrees ZL d x1 x2 S) Q) : zW (ZL d 220 [.inl x1, .inl x2] S) Q := zW_of zte (f := zf_220) rfl h
theorem zl_makerOf {d : Nat} {x1 : Int} {S : ZS} {Q : Option (Option ZV) → ZS → Prop} (h : zW (zb_makerOf ZL d x1 S) Q) : zW (ZL d 221 [.inl x1] S) Q := zW_of zte (f := zf_221) rfl h
theorem zl_isSameConstant {d : Nat} {x1 : Int} {x2 : Int} {S : ZS} {Q : Option (Option ZV) → ZS → Prop} (h : zW (zb_isSameConstant ZL d x1 x2 S) Q) : zW (ZL d 222 [.inl x1, .inl x2] S) Q := zW_of zte (f := zf_222) rfl h
theorem zl_order0 {d : Nat} {x1 : Int} {x2 : Int} {S : ZS} {Q : Option (Option ZV) → ZS → Prop} (h : zW (zb_order0 ZL d x1 x2 S) Q) : zW (ZL d 223 [.inl x1, .inl x2] S) Q := zW_of zte (f := zf_223) rfl h
theorem zl_sizeIn {d : Nat} {x1 : Int} {S : ZS} {Q : Option (Option ZV) → ZS → Prop} (h : zW (zb_sizeIn ZL d x1 S) Q) : zW (ZL d 224 [.inl x1] S) Q := zW_of zte (f := zf_224) rfl h
theorem zl_byteIn {d : Nat} {x1 : Int} {x2 : Int} {S : ZS} {Q : Option (Option ZV) → ZS → Prop} (h : zW (zb_byteIn ZL d x1 x2 S) Q) : zW (ZL d 225 [.inl x1, .inl x2] S) Q := zW_of zte (f := zf_225) rfl h
theorem zl_exceptionIn {d : Nat} {x1 : Int} {S : ZS} {Q : Option (Option ZV) → ZS → Prop} (h : zW (zb_exceptionIn ZL d x1 S) Q) : zW (ZL d 226 [.inl x1] S) Q := zW_of zte (f := zf_226) rfl h
theorem zl_partOfPattern {d : Nat} {x1 : Int} {S : ZS} {Q : Option (Option ZV) → ZS → Prop} (h : zW (zb_partOfPattern ZL d x1 S) Q) : zW (ZL d 227 [.inl x1] S) Q := zW_of zte (f := zf_227) rfl h
theorem zl_areAllTold {d : Nat} {x1 : Int} {S : ZS} {Q : Option (Option ZV) → ZS → Prop} (h : zW (zb_areAllTold ZL d x1 S) Q) : zW (ZL d 228 [.inl x1] S) Q := zW_of zte (f := zf_228) rfl h
theorem zl_usefulByEach {d : Nat} {x1 : Int} {S : ZS} {Q : Option (Option ZV) → ZS → Prop} (h : zW (zb_usefulByEach ZL d x1 S) Q) : zW (ZL d 229 [.inl x1] S) Q := zW_of zte (f := zf_229) rfl h
theorem zl_slide {d : Nat} {x1 : Int} {S : ZS} {Q : Option (Option ZV) → ZS → Prop} (h : zW (zb_slide ZL d x1 S) Q) : zW (ZL d 230 [.inl x1] S) Q := zW_of zte (f := zf_230) rfl h
theorem zl_note0 {d : Nat} {x1 : Int} {x2 : Int} {S : ZS} {Q : Option (Option ZV) → ZS → Prop} (h : zW (zb_note0 ZL d x1 x2 S) Q) : zW (ZL d 231 [.inl x1, .inl x2] S) Q := zW_of zte (f := zf_231) rfl h
theorem zl_giveBack {d : Nat}  {S : ZS} {Q : Option (Option ZV) → ZS → Prop} (h : zW (zb_giveBack ZL d  S) Q) : zW (ZL d 232 [] S) Q := zW_of zte (f := zf_232) rfl h
theorem zl_runAll {d : Nat} {x1 : Int} {S : ZS} {Q : Option (Option ZV) → ZS → Prop} (h : zW (zb_runAll ZL d x1 S) Q) : zW (ZL d 233 [.inl x1] S) Q := zW_of zte (f := zf_233) rfl h
theorem zl_push0 {d : Nat} {x1 : Int} {x2 : Int} {x3 : Int} {x5 : Int} {S : ZS} {Q : Option (Option ZV) → ZS → Prop} (h : zW (zb_push0 ZL d x1 x2 x3 x5 S) Q) : zW (ZL d 234 [.inl x1, .inl x2, .inr (.inl x3), .inl x5] S) Q := zW_of zte (f := zf_234) rfl h
theorem zl_gives {d : Nat} {x1 : Int} {S : ZS} {Q : Option (Option ZV) → ZS → Prop} (h : zW (zb_gives ZL d x1 S) Q) : zW (ZL d 235 [.inr (.inl x1)] S) Q := zW_of zte (f := zf_235) rfl h
theorem zl_work {d : Nat} {x1 : Int} {x2 : Int} {S : ZS} {Q : Option (Option ZV) → ZS → Prop} (h : zW (zb_work ZL d x1 x2 S) Q) : zW (ZL d 236 [.inl x1, .inl x2] S) Q := zW_of zte (f := zf_236) rfl h
theorem zl_value {d : Nat} {x0 : Int} {x2 : Int} {S : ZS} {Q : Option (Option ZV) → ZS → Prop} (h : zW (zb_value ZL d x0 x2 S) Q) : zW (ZL d 237 [.inr (.inl x0), .inr (.inl x2)] S) Q := zW_of zte (f := zf_237) rfl h
theorem zl_named0 {d : Nat} {x1 : Int} {S : ZS} {Q : Option (Option ZV) → ZS → Prop} (h : zW (zb_named0 ZL d x1 S) Q) : zW (ZL d 238 [.inl x1] S) Q := zW_of zte (f := zf_238) rfl h
theorem zl_load {d : Nat} {x1 : Int} {S : ZS} {Q : Option (Option ZV) → ZS → Prop} (h : zW (zb_load ZL d x1 S) Q) : zW (ZL d 239 [.inl x1] S) Q := zW_of zte (f := zf_239) rfl h
theorem zl_numberOf {d : Nat} {x0 : Int} {S : ZS} {Q : Option (Option ZV) → ZS → Prop} (h : zW (zb_numberOf ZL d x0 S) Q) : zW (ZL d 240 [.inr (.inl x0)] S) Q := zW_of zte (f := zf_240) rfl h
theorem zl_placeIn {d : Nat} {x1 : Int} {x2 : Int} {S : ZS} {Q : Option (Option ZV) → ZS → Prop} (h : zW (zb_placeIn ZL d x1 x2 S) Q) : zW (ZL d 241 [.inl x1, .inl x2] S) Q := zW_of zte (f := zf_241) rfl h
theorem zl_closure {d : Nat} {x1 : Int} {S : ZS} {Q : Option (Option ZV) → ZS → Prop} (h : zW (zb_closure ZL d x1 S) Q) : zW (ZL d 242 [.inl x1] S) Q := zW_of zte (f := zf_242) rfl h
theorem zl_cells {d : Nat} {x1 : Int} {S : ZS} {Q : Option (Option ZV) → ZS → Prop} (h : zW (zb_cells ZL d x1 S) Q) : zW (ZL d 243 [.inl x1] S) Q := zW_of zte (f := zf_243) rfl h
theorem zl_place {d : Nat} {x1 : Int} {S : ZS} {Q : Option (Option ZV) → ZS → Prop} (h : zW (zb_place ZL d x1 S) Q) : zW (ZL d 244 [.inl x1] S) Q := zW_of zte (f := zf_244) rfl h
theorem zl_waitFor {d : Nat} {x1 : Int} {x2 : Int} {x3 : Int} {x4 : Int} {S : ZS} {Q : Option (Option ZV) → ZS → Prop} (h : zW (zb_waitFor ZL d x1 x2 x3 x4 S) Q) : zW (ZL d 245 [.inl x1, .inl x2, .inl x3, .inl x4] S) Q := zW_of zte (f := zf_245) rfl h
theorem zl_goTo {d : Nat} {x1 : Int} {x2 : Int} {S : ZS} {Q : Option (Option ZV) → ZS → Prop} (h : zW (zb_goTo ZL d x1 x2 S) Q) : zW (ZL d 246 [.inl x1, .inl x2] S) Q := zW_of zte (f := zf_246) rfl h
theorem zl_applications0 {d : Nat} {x1 : Int} {x2 : Int} {S : ZS} {Q : Option (Option ZV) → ZS → Prop} (h : zW (zb_applications0 ZL d x1 x2 S) Q) : zW (ZL d 247 [.inl x1, .inl x2] S) Q := zW_of zte (f := zf_247) rfl h
theorem zl_test {d : Nat} {x1 : Int} {S : ZS} {Q : Option (Option ZV) → ZS → Prop} (h : zW (zb_test ZL d x1 S) Q) : zW (ZL d 248 [.inl x1] S) Q := zW_of zte (f := zf_248) rfl h
theorem zl_step1 {d : Nat}  {S : ZS} {Q : Option (Option ZV) → ZS → Prop} (h : zW (zb_step1 ZL d  S) Q) : zW (ZL d 249 [] S) Q := zW_of zte (f := zf_249) rfl h
theorem zl_sequence {d : Nat} {x1 : Int} {x2 : Int} {S : ZS} {Q : Option (Option ZV) → ZS → Prop} (h : zW (zb_sequence ZL d x1 x2 S) Q) : zW (ZL d 250 [.inl x1, .inl x2] S) Q := zW_of zte (f := zf_250) rfl h
theorem zl_workOther {d : Nat} {x1 : Int} {x2 : Int} {S : ZS} {Q : Option (Option ZV) → ZS → Prop} (h : zW (zb_workOther ZL d x1 x2 S) Q) : zW (ZL d 251 [.inl x1, .inl x2] S) Q := zW_of zte (f := zf_251) rfl h
theorem zl_goesOn_2 {d : Nat}  {S : ZS} {Q : Option (Option ZV) → ZS → Prop} (h : zW (zb_goesOn_2 ZL d  S) Q) : zW (ZL d 252 [] S) Q := zW_of zte (f := zf_252) rfl h
theorem zl_raises {d : Nat} {x1 : Int} {S : ZS} {Q : Option (Option ZV) → ZS → Prop} (h : zW (zb_raises ZL d x1 S) Q) : zW (ZL d 253 [.inr (.inl x1)] S) Q := zW_of zte (f := zf_253) rfl h
theorem zl_isTrue {d : Nat} {x1 : Int} {S : ZS} {Q : Option (Option ZV) → ZS → Prop} (h : zW (zb_isTrue ZL d x1 S) Q) : zW (ZL d 254 [.inr (.inl x1)] S) Q := zW_of zte (f := zf_254) rfl h
theorem zl_choose {d : Nat} {x1 : Int} {x2 : Int} {x4 : Int} {x5 : Int} {S : ZS} {Q : Option (Option ZV) → ZS → Prop} (h : zW (zb_choose ZL d x1 x2 x4 x5 S) Q) : zW (ZL d 255 [.inl x1, .inr (.inl x2), .inl x4, .inl x5] S) Q := zW_of zte (f := zf_255) rfl h
theorem zl_matches {d : Nat} {x1 : Int} {x2 : Int} {S : ZS} {Q : Option (Option ZV) → ZS → Prop} (h : zW (zb_matches ZL d x1 x2 S) Q) : zW (ZL d 256 [.inl x1, .inr (.inl x2)] S) Q := zW_of zte (f := zf_256) rfl h
theorem zl_store {d : Nat} {x1 : Int} {x2 : Int} {S : ZS} {Q : Option (Option ZV) → ZS → Prop} (h : zW (zb_store ZL d x1 x2 S) Q) : zW (ZL d 257 [.inl x1, .inr (.inl x2)] S) Q := zW_of zte (f := zf_257) rfl h
theorem zl_kindOf {d : Nat} {x0 : Int} {S : ZS} {Q : Option (Option ZV) → ZS → Prop} (h : zW (zb_kindOf ZL d x0 S) Q) : zW (ZL d 258 [.inr (.inl x0)] S) Q := zW_of zte (f := zf_258) rfl h
theorem zl_matchesRow {d : Nat} {x1 : Int} {x2 : Int} {S : ZS} {Q : Option (Option ZV) → ZS → Prop} (h : zW (zb_matchesRow ZL d x1 x2 S) Q) : zW (ZL d 259 [.inl x1, .inr (.inl x2)] S) Q := zW_of zte (f := zf_259) rfl h
theorem zl_part {d : Nat} {x1 : Int} {x3 : Int} {S : ZS} {Q : Option (Option ZV) → ZS → Prop} (h : zW (zb_part ZL d x1 x3 S) Q) : zW (ZL d 260 [.inr (.inl x1), .inl x3] S) Q := zW_of zte (f := zf_260) rfl h
theorem zl_manyOf {d : Nat} {x1 : Int} {S : ZS} {Q : Option (Option ZV) → ZS → Prop} (h : zW (zb_manyOf ZL d x1 S) Q) : zW (ZL d 261 [.inr (.inl x1)] S) Q := zW_of zte (f := zf_261) rfl h
theorem zl_labelOf {d : Nat} {x1 : Int} {x3 : Int} {S : ZS} {Q : Option (Option ZV) → ZS → Prop} (h : zW (zb_labelOf ZL d x1 x3 S) Q) : zW (ZL d 262 [.inr (.inl x1), .inl x3] S) Q := zW_of zte (f := zf_262) rfl h
theorem zl_partOf_2 {d : Nat} {x1 : Int} {x3 : Int} {S : ZS} {Q : Option (Option ZV) → ZS → Prop} (h : zW (zb_partOf_2 ZL d x1 x3 S) Q) : zW (ZL d 263 [.inr (.inl x1), .inl x3] S) Q := zW_of zte (f := zf_263) rfl h
theorem zl_matchesTuple {d : Nat} {x1 : Int} {x2 : Int} {S : ZS} {Q : Option (Option ZV) → ZS → Prop} (h : zW (zb_matchesTuple ZL d x1 x2 S) Q) : zW (ZL d 264 [.inl x1, .inr (.inl x2)] S) Q := zW_of zte (f := zf_264) rfl h
theorem zl_matchesList {d : Nat} {x1 : Int} {x2 : Int} {S : ZS} {Q : Option (Option ZV) → ZS → Prop} (h : zW (zb_matchesList ZL d x1 x2 S) Q) : zW (ZL d 265 [.inl x1, .inr (.inl x2)] S) Q := zW_of zte (f := zf_265) rfl h
theorem zl_isMadeBy {d : Nat} {x1 : Int} {x2 : Int} {S : ZS} {Q : Option (Option ZV) → ZS → Prop} (h : zW (zb_isMadeBy ZL d x1 x2 S) Q) : zW (ZL d 266 [.inl x1, .inr (.inl x2)] S) Q := zW_of zte (f := zf_266) rfl h
theorem zl_back {d : Nat}  {S : ZS} {Q : Option (Option ZV) → ZS → Prop} (h : zW (zb_back ZL d  S) Q) : zW (ZL d 267 [] S) Q := zW_of zte (f := zf_267) rfl h
theorem zl_goesOnMore {d : Nat} {x1 : Int} {x2 : Int} {x3 : Int} {x4 : Int} {S : ZS} {Q : Option (Option ZV) → ZS → Prop} (h : zW (zb_goesOnMore ZL d x1 x2 x3 x4 S) Q) : zW (ZL d 268 [.inl x1, .inl x2, .inl x3, .inr (.inl x4)] S) Q := zW_of zte (f := zf_268) rfl h
theorem zl_apply {d : Nat} {x1 : Int} {x3 : Int} {x5 : Int} {S : ZS} {Q : Option (Option ZV) → ZS → Prop} (h : zW (zb_apply ZL d x1 x3 x5 S) Q) : zW (ZL d 269 [.inr (.inl x1), .inr (.inl x3), .inl x5] S) Q := zW_of zte (f := zf_269) rfl h
theorem zl_makes {d : Nat} {x1 : Int} {x2 : Int} {S : ZS} {Q : Option (Option ZV) → ZS → Prop} (h : zW (zb_makes ZL d x1 x2 S) Q) : zW (ZL d 270 [.inl x1, .inr (.inl x2)] S) Q := zW_of zte (f := zf_270) rfl h
theorem zl_thrownWith {d : Nat} {x1 : Int} {x3 : Int} {S : ZS} {Q : Option (Option ZV) → ZS → Prop} (h : zW (zb_thrownWith ZL d x1 x3 S) Q) : zW (ZL d 271 [.inr (.inl x1), .inr (.inl x3)] S) Q := zW_of zte (f := zf_271) rfl h
theorem zl_firstOf {d : Nat} {x1 : Int} {x2 : Int} {S : ZS} {Q : Option (Option ZV) → ZS → Prop} (h : zW (zb_firstOf ZL d x1 x2 S) Q) : zW (ZL d 272 [.inl x1, .inr (.inl x2)] S) Q := zW_of zte (f := zf_272) rfl h
theorem zl_isOfTwo {d : Nat} {x1 : Int} {S : ZS} {Q : Option (Option ZV) → ZS → Prop} (h : zW (zb_isOfTwo ZL d x1 S) Q) : zW (ZL d 273 [.inl x1] S) Q := zW_of zte (f := zf_273) rfl h
theorem zl_first {d : Nat} {x1 : Int} {x2 : Int} {x4 : Int} {S : ZS} {Q : Option (Option ZV) → ZS → Prop} (h : zW (zb_first ZL d x1 x2 x4 S) Q) : zW (ZL d 274 [.inl x1, .inr (.inl x2), .inr (.inl x4)] S) Q := zW_of zte (f := zf_274) rfl h
theorem zl_areEqual {d : Nat} {x1 : Int} {x3 : Int} {S : ZS} {Q : Option (Option ZV) → ZS → Prop} (h : zW (zb_areEqual ZL d x1 x3 S) Q) : zW (ZL d 275 [.inr (.inl x1), .inr (.inl x3)] S) Q := zW_of zte (f := zf_275) rfl h
theorem zl_rowAhead {d : Nat} {x1 : Int} {x2 : Int} {x3 : Int} {x4 : Int} {S : ZS} {Q : Option (Option ZV) → ZS → Prop} (h : zW (zb_rowAhead ZL d x1 x2 x3 x4 S) Q) : zW (ZL d 276 [.inl x1, .inl x2, .inl x3, .inl x4] S) Q := zW_of zte (f := zf_276) rfl h
theorem zl_order {d : Nat} {x1 : Int} {x3 : Int} {S : ZS} {Q : Option (Option ZV) → ZS → Prop} (h : zW (zb_order ZL d x1 x3 S) Q) : zW (ZL d 277 [.inr (.inl x1), .inr (.inl x3)] S) Q := zW_of zte (f := zf_277) rfl h
theorem zl_truth {d : Nat} {x1 : Int} {S : ZS} {Q : Option (Option ZV) → ZS → Prop} (h : zW (zb_truth ZL d x1 S) Q) : zW (ZL d 278 [.inl x1] S) Q := zW_of zte (f := zf_278) rfl h
theorem zl_intOf {d : Nat} {x1 : Int} {S : ZS} {Q : Option (Option ZV) → ZS → Prop} (h : zW (zb_intOf ZL d x1 S) Q) : zW (ZL d 279 [.inr (.inl x1)] S) Q := zW_of zte (f := zf_279) rfl h
theorem zl_joinedStrings {d : Nat} {x1 : Int} {x3 : Int} {S : ZS} {Q : Option (Option ZV) → ZS → Prop} (h : zW (zb_joinedStrings ZL d x1 x3 S) Q) : zW (ZL d 280 [.inr (.inl x1), .inr (.inl x3)] S) Q := zW_of zte (f := zf_280) rfl h
theorem zl_stringOf {d : Nat} {x1 : Int} {S : ZS} {Q : Option (Option ZV) → ZS → Prop} (h : zW (zb_stringOf ZL d x1 S) Q) : zW (ZL d 281 [.inl x1] S) Q := zW_of zte (f := zf_281) rfl h
theorem zl_substringOf {d : Nat} {x1 : Int} {x2 : Int} {x3 : Int} {S : ZS} {Q : Option (Option ZV) → ZS → Prop} (h : zW (zb_substringOf ZL d x1 x2 x3 S) Q) : zW (ZL d 282 [.inl x1, .inl x2, .inl x3] S) Q := zW_of zte (f := zf_282) rfl h
theorem zl_exploded {d : Nat} {x1 : Int} {S : ZS} {Q : Option (Option ZV) → ZS → Prop} (h : zW (zb_exploded ZL d x1 S) Q) : zW (ZL d 283 [.inl x1] S) Q := zW_of zte (f := zf_283) rfl h
theorem zl_pairOf {d : Nat} {x1 : Int} {x3 : Int} {S : ZS} {Q : Option (Option ZV) → ZS → Prop} (h : zW (zb_pairOf ZL d x1 x3 S) Q) : zW (ZL d 284 [.inr (.inl x1), .inr (.inl x3)] S) Q := zW_of zte (f := zf_284) rfl h
theorem zl_tuple {d : Nat} {x1 : Int} {S : ZS} {Q : Option (Option ZV) → ZS → Prop} (h : zW (zb_tuple ZL d x1 S) Q) : zW (ZL d 285 [.inl x1] S) Q := zW_of zte (f := zf_285) rfl h
theorem zl_imploded {d : Nat} {x1 : Int} {S : ZS} {Q : Option (Option ZV) → ZS → Prop} (h : zW (zb_imploded ZL d x1 S) Q) : zW (ZL d 286 [.inr (.inl x1)] S) Q := zW_of zte (f := zf_286) rfl h
theorem zl_rest {d : Nat} {x1 : Int} {S : ZS} {Q : Option (Option ZV) → ZS → Prop} (h : zW (zb_rest ZL d x1 S) Q) : zW (ZL d 287 [.inr (.inl x1)] S) Q := zW_of zte (f := zf_287) rfl h
theorem zl_thing {d : Nat} {x1 : Int} {S : ZS} {Q : Option (Option ZV) → ZS → Prop} (h : zW (zb_thing ZL d x1 S) Q) : zW (ZL d 288 [.inr (.inl x1)] S) Q := zW_of zte (f := zf_288) rfl h
theorem zl_digitsOf {d : Nat} {x1 : Int} {S : ZS} {Q : Option (Option ZV) → ZS → Prop} (h : zW (zb_digitsOf ZL d x1 S) Q) : zW (ZL d 289 [.inr (.inl x1)] S) Q := zW_of zte (f := zf_289) rfl h
theorem zl_putOut {d : Nat} {x1 : Int} {S : ZS} {Q : Option (Option ZV) → ZS → Prop} (h : zW (zb_putOut ZL d x1 S) Q) : zW (ZL d 290 [.inl x1] S) Q := zW_of zte (f := zf_290) rfl h
theorem zl_functionOf {d : Nat} {x1 : Int} {S : ZS} {Q : Option (Option ZV) → ZS → Prop} (h : zW (zb_functionOf ZL d x1 S) Q) : zW (ZL d 291 [.inr (.inl x1)] S) Q := zW_of zte (f := zf_291) rfl h
theorem zl_partial {d : Nat} {x1 : Int} {x3 : Int} {x5 : Int} {S : ZS} {Q : Option (Option ZV) → ZS → Prop} (h : zW (zb_partial ZL d x1 x3 x5 S) Q) : zW (ZL d 292 [.inr (.inl x1), .inr (.inl x3), .inl x5] S) Q := zW_of zte (f := zf_292) rfl h
theorem zl_call {d : Nat} {x1 : Int} {x3 : Int} {x5 : Int} {x6 : Int} {S : ZS} {Q : Option (Option ZV) → ZS → Prop} (h : zW (zb_call ZL d x1 x3 x5 x6 S) Q) : zW (ZL d 293 [.inr (.inl x1), .inr (.inl x3), .inl x5, .inl x6] S) Q := zW_of zte (f := zf_293) rfl h
theorem zl_body {d : Nat}  {S : ZS} {Q : Option (Option ZV) → ZS → Prop} (h : zW (zb_body ZL d  S) Q) : zW (ZL d 294 [] S) Q := zW_of zte (f := zf_294) rfl h
theorem zl_infix {d : Nat} {x1 : Int} {x2 : Int} {x4 : Int} {x6 : Int} {S : ZS} {Q : Option (Option ZV) → ZS → Prop} (h : zW (zb_infix ZL d x1 x2 x4 x6 S) Q) : zW (ZL d 295 [.inl x1, .inr (.inl x2), .inr (.inl x4), .inl x6] S) Q := zW_of zte (f := zf_295) rfl h
theorem zl_decs0 {d : Nat} {x1 : Int} {S : ZS} {Q : Option (Option ZV) → ZS → Prop} (h : zW (zb_decs0 ZL d x1 S) Q) : zW (ZL d 296 [.inl x1] S) Q := zW_of zte (f := zf_296) rfl h
theorem zl_rec {d : Nat} {x1 : Int} {S : ZS} {Q : Option (Option ZV) → ZS → Prop} (h : zW (zb_rec ZL d x1 S) Q) : zW (ZL d 297 [.inl x1] S) Q := zW_of zte (f := zf_297) rfl h
theorem zl_nameIn {d : Nat} {x1 : Int} {S : ZS} {Q : Option (Option ZV) → ZS → Prop} (h : zW (zb_nameIn ZL d x1 S) Q) : zW (ZL d 298 [.inl x1] S) Q := zW_of zte (f := zf_298) rfl h
theorem zl_tie {d : Nat} {x1 : Int} {x2 : Int} {S : ZS} {Q : Option (Option ZV) → ZS → Prop} (h : zW (zb_tie ZL d x1 x2 S) Q) : zW (ZL d 299 [.inl x1, .inr (.inl x2)] S) Q := zW_of zte (f := zf_299) rfl h
theorem zl_fun {d : Nat} {x1 : Int} {S : ZS} {Q : Option (Option ZV) → ZS → Prop} (h : zW (zb_fun ZL d x1 S) Q) : zW (ZL d 300 [.inl x1] S) Q := zW_of zte (f := zf_300) rfl h
theorem zl_bound {d : Nat} {x1 : Int} {x2 : Int} {S : ZS} {Q : Option (Option ZV) → ZS → Prop} (h : zW (zb_bound ZL d x1 x2 S) Q) : zW (ZL d 301 [.inl x1, .inr (.inl x2)] S) Q := zW_of zte (f := zf_301) rfl h
theorem zl_oneMore {d : Nat} {x1 : Int} {x2 : Int} {x3 : Int} {x4 : Int} {S : ZS} {Q : Option (Option ZV) → ZS → Prop} (h : zW (zb_oneMore ZL d x1 x2 x3 x4 S) Q) : zW (ZL d 302 [.inl x1, .inl x2, .inl x3, .inr (.inl x4)] S) Q := zW_of zte (f := zf_302) rfl h
theorem zl_listOf {d : Nat} {x1 : Int} {S : ZS} {Q : Option (Option ZV) → ZS → Prop} (h : zW (zb_listOf ZL d x1 S) Q) : zW (ZL d 303 [.inl x1] S) Q := zW_of zte (f := zf_303) rfl h
theorem zl_rowOf {d : Nat} {x1 : Int} {x2 : Int} {x3 : Int} {S : ZS} {Q : Option (Option ZV) → ZS → Prop} (h : zW (zb_rowOf ZL d x1 x2 x3 S) Q) : zW (ZL d 304 [.inl x1, .inl x2, .inl x3] S) Q := zW_of zte (f := zf_304) rfl h
theorem zl_shapeOf {d : Nat} {x1 : Int} {S : ZS} {Q : Option (Option ZV) → ZS → Prop} (h : zW (zb_shapeOf ZL d x1 S) Q) : zW (ZL d 305 [.inl x1] S) Q := zW_of zte (f := zf_305) rfl h
theorem zl_isAhead {d : Nat} {x1 : Int} {x2 : Int} {S : ZS} {Q : Option (Option ZV) → ZS → Prop} (h : zW (zb_isAhead ZL d x1 x2 S) Q) : zW (ZL d 306 [.inl x1, .inl x2] S) Q := zW_of zte (f := zf_306) rfl h
theorem zl_likeShape {d : Nat} {x1 : Int} {S : ZS} {Q : Option (Option ZV) → ZS → Prop} (h : zW (zb_likeShape ZL d x1 S) Q) : zW (ZL d 307 [.inl x1] S) Q := zW_of zte (f := zf_307) rfl h
theorem zl_unwind {d : Nat}  {S : ZS} {Q : Option (Option ZV) → ZS → Prop} (h : zW (zb_unwind ZL d  S) Q) : zW (ZL d 308 [] S) Q := zW_of zte (f := zf_308) rfl h
theorem zl_keepBound {d : Nat}  {S : ZS} {Q : Option (Option ZV) → ZS → Prop} (h : zW (zb_keepBound ZL d  S) Q) : zW (ZL d 309 [] S) Q := zW_of zte (f := zf_309) rfl h
theorem zl_keepInfix {d : Nat}  {S : ZS} {Q : Option (Option ZV) → ZS → Prop} (h : zW (zb_keepInfix ZL d  S) Q) : zW (ZL d 310 [] S) Q := zW_of zte (f := zf_310) rfl h
theorem zl_keepTypes {d : Nat}  {S : ZS} {Q : Option (Option ZV) → ZS → Prop} (h : zW (zb_keepTypes ZL d  S) Q) : zW (ZL d 311 [] S) Q := zW_of zte (f := zf_311) rfl h
theorem zl_endOf {d : Nat} {x1 : Int} {S : ZS} {Q : Option (Option ZV) → ZS → Prop} (h : zW (zb_endOf ZL d x1 S) Q) : zW (ZL d 312 [.inl x1] S) Q := zW_of zte (f := zf_312) rfl h
theorem zl_noteLines {d : Nat}  {S : ZS} {Q : Option (Option ZV) → ZS → Prop} (h : zW (zb_noteLines ZL d  S) Q) : zW (ZL d 313 [] S) Q := zW_of zte (f := zf_313) rfl h
theorem zl_told {d : Nat} {x1 : Int} {S : ZS} {Q : Option (Option ZV) → ZS → Prop} (h : zW (zb_told ZL d x1 S) Q) : zW (ZL d 314 [.inl x1] S) Q := zW_of zte (f := zf_314) rfl h
theorem zl_tell {d : Nat} {x1 : Int} {S : ZS} {Q : Option (Option ZV) → ZS → Prop} (h : zW (zb_tell ZL d x1 S) Q) : zW (ZL d 315 [.inl x1] S) Q := zW_of zte (f := zf_315) rfl h
theorem zl_sayValue {d : Nat} {x1 : Int} {x3 : Int} {S : ZS} {Q : Option (Option ZV) → ZS → Prop} (h : zW (zb_sayValue ZL d x1 x3 S) Q) : zW (ZL d 316 [.inr (.inl x1), .inl x3] S) Q := zW_of zte (f := zf_316) rfl h
theorem zl_isFull {d : Nat}  {S : ZS} {Q : Option (Option ZV) → ZS → Prop} (h : zW (zb_isFull ZL d  S) Q) : zW (ZL d 317 [] S) Q := zW_of zte (f := zf_317) rfl h
theorem zl_say {d : Nat} {x1 : Int} {S : ZS} {Q : Option (Option ZV) → ZS → Prop} (h : zW (zb_say ZL d x1 S) Q) : zW (ZL d 318 [.inl x1] S) Q := zW_of zte (f := zf_318) rfl h
theorem zl_sayInt {d : Nat} {x1 : Int} {S : ZS} {Q : Option (Option ZV) → ZS → Prop} (h : zW (zb_sayInt ZL d x1 S) Q) : zW (ZL d 319 [.inr (.inl x1)] S) Q := zW_of zte (f := zf_319) rfl h
theorem zl_sayByte {d : Nat} {x1 : Int} {S : ZS} {Q : Option (Option ZV) → ZS → Prop} (h : zW (zb_sayByte ZL d x1 S) Q) : zW (ZL d 320 [.inl x1] S) Q := zW_of zte (f := zf_320) rfl h
theorem zl_sayName {d : Nat} {x1 : Int} {S : ZS} {Q : Option (Option ZV) → ZS → Prop} (h : zW (zb_sayName ZL d x1 S) Q) : zW (ZL d 321 [.inl x1] S) Q := zW_of zte (f := zf_321) rfl h
theorem zl_sayRow {d : Nat} {x1 : Int} {x3 : Int} {S : ZS} {Q : Option (Option ZV) → ZS → Prop} (h : zW (zb_sayRow ZL d x1 x3 S) Q) : zW (ZL d 322 [.inr (.inl x1), .inl x3] S) Q := zW_of zte (f := zf_322) rfl h
theorem zl_sayLabel {d : Nat} {x1 : Int} {S : ZS} {Q : Option (Option ZV) → ZS → Prop} (h : zW (zb_sayLabel ZL d x1 S) Q) : zW (ZL d 323 [.inl x1] S) Q := zW_of zte (f := zf_323) rfl h
theorem zl_sayBehind {d : Nat} {x1 : Int} {x3 : Int} {S : ZS} {Q : Option (Option ZV) → ZS → Prop} (h : zW (zb_sayBehind ZL d x1 x3 S) Q) : zW (ZL d 324 [.inr (.inl x1), .inl x3] S) Q := zW_of zte (f := zf_324) rfl h
theorem zl_isApplied {d : Nat} {x1 : Int} {S : ZS} {Q : Option (Option ZV) → ZS → Prop} (h : zW (zb_isApplied ZL d x1 S) Q) : zW (ZL d 325 [.inr (.inl x1)] S) Q := zW_of zte (f := zf_325) rfl h
theorem zl_numberOfCon {d : Nat} {x1 : Int} {S : ZS} {Q : Option (Option ZV) → ZS → Prop} (h : zW (zb_numberOfCon ZL d x1 S) Q) : zW (ZL d 326 [.inr (.inl x1)] S) Q := zW_of zte (f := zf_326) rfl h
theorem zl_sayMade {d : Nat} {x1 : Int} {x3 : Int} {S : ZS} {Q : Option (Option ZV) → ZS → Prop} (h : zW (zb_sayMade ZL d x1 x3 S) Q) : zW (ZL d 327 [.inr (.inl x1), .inl x3] S) Q := zW_of zte (f := zf_327) rfl h
theorem zl_toldAs {d : Nat} {x0 : Int} {S : ZS} {Q : Option (Option ZV) → ZS → Prop} (h : zW (zb_toldAs ZL d x0 S) Q) : zW (ZL d 328 [.inr (.inl x0)] S) Q := zW_of zte (f := zf_328) rfl h
theorem zl_shown {d : Nat} {x1 : Int} {S : ZS} {Q : Option (Option ZV) → ZS → Prop} (h : zW (zb_shown ZL d x1 S) Q) : zW (ZL d 329 [.inl x1] S) Q := zW_of zte (f := zf_329) rfl h
theorem zl_sayType {d : Nat} {x1 : Int} {x2 : Int} {S : ZS} {Q : Option (Option ZV) → ZS → Prop} (h : zW (zb_sayType ZL d x1 x2 S) Q) : zW (ZL d 330 [.inl x1, .inl x2] S) Q := zW_of zte (f := zf_330) rfl h
theorem zl_sayVariable {d : Nat} {x1 : Int} {S : ZS} {Q : Option (Option ZV) → ZS → Prop} (h : zW (zb_sayVariable ZL d x1 S) Q) : zW (ZL d 331 [.inl x1] S) Q := zW_of zte (f := zf_331) rfl h
theorem zl_isTuple {d : Nat} {x1 : Int} {S : ZS} {Q : Option (Option ZV) → ZS → Prop} (h : zW (zb_isTuple ZL d x1 S) Q) : zW (ZL d 332 [.inl x1] S) Q := zW_of zte (f := zf_332) rfl h
theorem zl_sayRowType {d : Nat} {x1 : Int} {S : ZS} {Q : Option (Option ZV) → ZS → Prop} (h : zW (zb_sayRowType ZL d x1 S) Q) : zW (ZL d 333 [.inl x1] S) Q := zW_of zte (f := zf_333) rfl h
theorem zl_sayMadeType {d : Nat} {x1 : Int} {S : ZS} {Q : Option (Option ZV) → ZS → Prop} (h : zW (zb_sayMadeType ZL d x1 S) Q) : zW (ZL d 334 [.inl x1] S) Q := zW_of zte (f := zf_334) rfl h
theorem zl_tellType {d : Nat} {x1 : Int} {x2 : Int} {S : ZS} {Q : Option (Option ZV) → ZS → Prop} (h : zW (zb_tellType ZL d x1 x2 S) Q) : zW (ZL d 335 [.inl x1, .inl x2] S) Q := zW_of zte (f := zf_335) rfl h
theorem zl_sayVars {d : Nat} {x1 : Int} {S : ZS} {Q : Option (Option ZV) → ZS → Prop} (h : zW (zb_sayVars ZL d x1 S) Q) : zW (ZL d 336 [.inl x1] S) Q := zW_of zte (f := zf_336) rfl h
theorem zl_tellData {d : Nat} {x1 : Int} {S : ZS} {Q : Option (Option ZV) → ZS → Prop} (h : zW (zb_tellData ZL d x1 S) Q) : zW (ZL d 337 [.inl x1] S) Q := zW_of zte (f := zf_337) rfl h
theorem zl_listed0 {d : Nat} {x1 : Int} {S : ZS} {Q : Option (Option ZV) → ZS → Prop} (h : zW (zb_listed0 ZL d x1 S) Q) : zW (ZL d 338 [.inl x1] S) Q := zW_of zte (f := zf_338) rfl h
theorem zl_letter {d : Nat} {x1 : Int} {x2 : Int} {S : ZS} {Q : Option (Option ZV) → ZS → Prop} (h : zW (zb_letter ZL d x1 x2 S) Q) : zW (ZL d 339 [.inl x1, .inl x2] S) Q := zW_of zte (f := zf_339) rfl h
theorem zl_note {d : Nat} {x1 : Int} {x2 : Int} {S : ZS} {Q : Option (Option ZV) → ZS → Prop} (h : zW (zb_note ZL d x1 x2 S) Q) : zW (ZL d 340 [.inl x1, .inl x2] S) Q := zW_of zte (f := zf_340) rfl h
theorem zl_out {d : Nat} {x1 : Int} {S : ZS} {Q : Option (Option ZV) → ZS → Prop} (h : zW (zb_out ZL d x1 S) Q) : zW (ZL d 341 [.inl x1] S) Q := zW_of zte (f := zf_341) rfl h
theorem zl_outs {d : Nat}  {S : ZS} {Q : Option (Option ZV) → ZS → Prop} (h : zW (zb_outs ZL d  S) Q) : zW (ZL d 342 [] S) Q := zW_of zte (f := zf_342) rfl h
theorem zl_keep_2 {d : Nat}  {S : ZS} {Q : Option (Option ZV) → ZS → Prop} (h : zW (zb_keep_2 ZL d  S) Q) : zW (ZL d 343 [] S) Q := zW_of zte (f := zf_343) rfl h
theorem zl_back_2 {d : Nat} {x1 : Int} {S : ZS} {Q : Option (Option ZV) → ZS → Prop} (h : zW (zb_back_2 ZL d x1 S) Q) : zW (ZL d 344 [.inl x1] S) Q := zW_of zte (f := zf_344) rfl h
theorem zl_clear {d : Nat}  {S : ZS} {Q : Option (Option ZV) → ZS → Prop} (h : zW (zb_clear ZL d  S) Q) : zW (ZL d 345 [] S) Q := zW_of zte (f := zf_345) rfl h
theorem zl_feed_p23 {d : Nat} {x1 : Int} {x2 : Int} {x3 : Int} {x4 : Int} {x5 : Int} {x6 : Int} {S : ZS} {Q : Option (Option ZV) → ZS → Prop} (h : zW (zb_feed_p23 ZL d x1 x2 x3 x4 x5 x6 S) Q) : zW (ZL d 346 [.inl x1, .inl x2, .inl x3, .inl x4, .inl x5, .inl x6] S) Q := zW_of zte (f := zf_346) rfl h
theorem zl_end_p21 {d : Nat} {x1 : Int} {x2 : Int} {S : ZS} {Q : Option (Option ZV) → ZS → Prop} (h : zW (zb_end_p21 ZL d x1 x2 S) Q) : zW (ZL d 347 [.inl x1, .inl x2] S) Q := zW_of zte (f := zf_347) rfl h
theorem zl_type_p42 {d : Nat} {x3 : Int} {x4 : Int} {x6 : Int} {y0 : Int} {y1 : Int} {S : ZS} {Q : Option (Option ZV) → ZS → Prop} (h : zW (zb_type_p42 ZL d x3 x4 x6 y0 y1 S) Q) : zW (ZL d 348 [.inl x3, .inl x4, .inl x6, .inl y0, .inl y1] S) Q := zW_of zte (f := zf_348) rfl h
theorem zl_sign0_p50 {d : Nat} {x3 : Int} {S : ZS} {Q : Option (Option ZV) → ZS → Prop} (h : zW (zb_sign0_p50 ZL d x3 S) Q) : zW (ZL d 349 [.inl x3] S) Q := zW_of zte (f := zf_349) rfl h
theorem zl_sign0_p98 {d : Nat} {x2 : Int} {x3 : Int} {x4 : Int} {S : ZS} {Q : Option (Option ZV) → ZS → Prop} (h : zW (zb_sign0_p98 ZL d x2 x3 x4 S) Q) : zW (ZL d 350 [.inl x2, .inl x3, .inl x4] S) Q := zW_of zte (f := zf_350) rfl h
theorem zl_sign0_p211 {d : Nat} {x2 : Int} {x3 : Int} {S : ZS} {Q : Option (Option ZV) → ZS → Prop} (h : zW (zb_sign0_p211 ZL d x2 x3 S) Q) : zW (ZL d 351 [.inl x2, .inl x3] S) Q := zW_of zte (f := zf_351) rfl h
theorem zl_find_p2 {d : Nat} {x1 : Int} {x2 : Int} {S : ZS} {Q : Option (Option ZV) → ZS → Prop} (h : zW (zb_find_p2 ZL d x1 x2 S) Q) : zW (ZL d 352 [.inl x1, .inl x2] S) Q := zW_of zte (f := zf_352) rfl h
theorem zl_variableOf_p48 {d : Nat} {x1 : Int} {y0 : Int} {y1 : Int} {S : ZS} {Q : Option (Option ZV) → ZS → Prop} (h : zW (zb_variableOf_p48 ZL d x1 y0 y1 S) Q) : zW (ZL d 353 [.inl x1, .inl y0, .inl y1] S) Q := zW_of zte (f := zf_353) rfl h
theorem zl_fix_p26 {d : Nat} {y0 : Int} {y1 : Int} {y2 : Int} {S : ZS} {Q : Option (Option ZV) → ZS → Prop} (h : zW (zb_fix_p26 ZL d y0 y1 y2 S) Q) : zW (ZL d 354 [.inl y0, .inl y1, .inl y2] S) Q := zW_of zte (f := zf_354) rfl h
theorem zl_withField_p26 {d : Nat} {x1 : Int} {x2 : Int} {x3 : Int} {x4 : Int} {S : ZS} {Q : Option (Option ZV) → ZS → Prop} (h : zW (zb_withField_p26 ZL d x1 x2 x3 x4 S) Q) : zW (ZL d 355 [.inl x1, .inl x2, .inl x3, .inl x4] S) Q := zW_of zte (f := zf_355) rfl h
theorem zl_input_p148 {d : Nat} {x1 : Int} {S : ZS} {Q : Option (Option ZV) → ZS → Prop} (h : zW (zb_input_p148 ZL d x1 S) Q) : zW (ZL d 356 [.inl x1] S) Q := zW_of zte (f := zf_356) rfl h
theorem zl_read_p123 {d : Nat} {x1 : Int} {S : ZS} {Q : Option (Option ZV) → ZS → Prop} (h : zW (zb_read_p123 ZL d x1 S) Q) : zW (ZL d 357 [.inl x1] S) Q := zW_of zte (f := zf_357) rfl h
theorem zl_gaps_p60 {d : Nat} {x1 : Int} {x2 : Int} {S : ZS} {Q : Option (Option ZV) → ZS → Prop} (h : zW (zb_gaps_p60 ZL d x1 x2 S) Q) : zW (ZL d 358 [.inl x1, .inl x2] S) Q := zW_of zte (f := zf_358) rfl h
theorem zl_isLetter_p12 {d : Nat} {x0 : Int} {S : ZS} {Q : Option (Option ZV) → ZS → Prop} (h : zW (zb_isLetter_p12 ZL d x0 S) Q) : zW (ZL d 359 [.inl x0] S) Q := zW_of zte (f := zf_359) rfl h
theorem zl_nameAt_text {d : Nat} {x2 : Int} {x3 : Int} {S : ZS} {Q : Option (Option ZV) → ZS → Prop} (h : zW (zb_nameAt_text ZL d x2 x3 S) Q) : zW (ZL d 360 [.inl x2, .inl x3] S) Q := zW_of zte (f := zf_360) rfl h
theorem zl_readVariable_p29 {d : Nat}  {S : ZS} {Q : Option (Option ZV) → ZS → Prop} (h : zW (zb_readVariable_p29 ZL d  S) Q) : zW (ZL d 361 [] S) Q := zW_of zte (f := zf_361) rfl h
theorem zl_readInt_p14 {d : Nat} {y0 : Int} {S : ZS} {Q : Option (Option ZV) → ZS → Prop} (h : zW (zb_readInt_p14 ZL d y0 S) Q) : zW (ZL d 362 [.inl y0] S) Q := zW_of zte (f := zf_362) rfl h
theorem zl_readString_p14 {d : Nat} {x1 : Int} {y0 : Int} {y1 : Int} {S : ZS} {Q : Option (Option ZV) → ZS → Prop} (h : zW (zb_readString_p14 ZL d x1 y0 y1 S) Q) : zW (ZL d 363 [.inl x1, .inl y0, .inl y1] S) Q := zW_of zte (f := zf_363) rfl h
theorem zl_readEscape_p29 {d : Nat} {x1 : Int} {S : ZS} {Q : Option (Option ZV) → ZS → Prop} (h : zW (zb_readEscape_p29 ZL d x1 S) Q) : zW (ZL d 364 [.inl x1] S) Q := zW_of zte (f := zf_364) rfl h
theorem zl_readEscape_p71 {d : Nat} {x2 : Int} {x3 : Int} {S : ZS} {Q : Option (Option ZV) → ZS → Prop} (h : zW (zb_readEscape_p71 ZL d x2 x3 S) Q) : zW (ZL d 365 [.inl x2, .inl x3] S) Q := zW_of zte (f := zf_365) rfl h
theorem zl_readSigns_p65 {d : Nat} {y0 : Int} {S : ZS} {Q : Option (Option ZV) → ZS → Prop} (h : zW (zb_readSigns_p65 ZL d y0 S) Q) : zW (ZL d 366 [.inl y0] S) Q := zW_of zte (f := zf_366) rfl h
theorem zl_readSigns_p41 {d : Nat}  {S : ZS} {Q : Option (Option ZV) → ZS → Prop} (h : zW (zb_readSigns_p41 ZL d  S) Q) : zW (ZL d 367 [] S) Q := zW_of zte (f := zf_367) rfl h
theorem zl_readOther_p8 {d : Nat} {x2 : Int} {S : ZS} {Q : Option (Option ZV) → ZS → Prop} (h : zW (zb_readOther_p8 ZL d x2 S) Q) : zW (ZL d 368 [.inl x2] S) Q := zW_of zte (f := zf_368) rfl h
theorem zl_readOther_p115 {d : Nat}  {S : ZS} {Q : Option (Option ZV) → ZS → Prop} (h : zW (zb_readOther_p115 ZL d  S) Q) : zW (ZL d 369 [] S) Q := zW_of zte (f := zf_369) rfl h
theorem zl_decs_p10 {d : Nat} {x1 : Int} {x2 : Int} {x3 : Int} {x4 : Int} {S : ZS} {Q : Option (Option ZV) → ZS → Prop} (h : zW (zb_decs_p10 ZL d x1 x2 x3 x4 S) Q) : zW (ZL d 370 [.inl x1, .inl x2, .inl x3, .inl x4] S) Q := zW_of zte (f := zf_370) rfl h
theorem zl_dec_p95 {d : Nat} {x1 : Int} {y0 : Int} {S : ZS} {Q : Option (Option ZV) → ZS → Prop} (h : zW (zb_dec_p95 ZL d x1 y0 S) Q) : zW (ZL d 371 [.inl x1, .inl y0] S) Q := zW_of zte (f := zf_371) rfl h
theorem zl_local_p25 {d : Nat} {x1 : Int} {x2 : Int} {y0 : Int} {S : ZS} {Q : Option (Option ZV) → ZS → Prop} (h : zW (zb_local_p25 ZL d x1 x2 y0 S) Q) : zW (ZL d 372 [.inl x1, .inl x2, .inl y0] S) Q := zW_of zte (f := zf_372) rfl h
theorem zl_binds_p6 {d : Nat} {x1 : Int} {x2 : Int} {x3 : Int} {S : ZS} {Q : Option (Option ZV) → ZS → Prop} (h : zW (zb_binds_p6 ZL d x1 x2 x3 S) Q) : zW (ZL d 373 [.inl x1, .inl x2, .inl x3] S) Q := zW_of zte (f := zf_373) rfl h
theorem zl_pattern_p19 {d : Nat} {x1 : Int} {y0 : Int} {S : ZS} {Q : Option (Option ZV) → ZS → Prop} (h : zW (zb_pattern_p19 ZL d x1 y0 S) Q) : zW (ZL d 374 [.inl x1, .inl y0] S) Q := zW_of zte (f := zf_374) rfl h
theorem zl_infixed_p10 {d : Nat} {x1 : Int} {x2 : Int} {S : ZS} {Q : Option (Option ZV) → ZS → Prop} (h : zW (zb_infixed_p10 ZL d x1 x2 S) Q) : zW (ZL d 375 [.inl x1, .inl x2] S) Q := zW_of zte (f := zf_375) rfl h
theorem zl_push_p15 {d : Nat} {y0 : Int} {S : ZS} {Q : Option (Option ZV) → ZS → Prop} (h : zW (zb_push_p15 ZL d y0 S) Q) : zW (ZL d 376 [.inl y0] S) Q := zW_of zte (f := zf_376) rfl h
theorem zl_appliedPattern_p41 {d : Nat} {x1 : Int} {y0 : Int} {S : ZS} {Q : Option (Option ZV) → ZS → Prop} (h : zW (zb_appliedPattern_p41 ZL d x1 y0 S) Q) : zW (ZL d 377 [.inl x1, .inl y0] S) Q := zW_of zte (f := zf_377) rfl h
theorem zl_fixOf_p5 {d : Nat} {x1 : Int} {x2 : Int} {S : ZS} {Q : Option (Option ZV) → ZS → Prop} (h : zW (zb_fixOf_p5 ZL d x1 x2 S) Q) : zW (ZL d 378 [.inl x1, .inl x2] S) Q := zW_of zte (f := zf_378) rfl h
theorem zl_atomPattern_p50 {d : Nat}  {S : ZS} {Q : Option (Option ZV) → ZS → Prop} (h : zW (zb_atomPattern_p50 ZL d  S) Q) : zW (ZL d 379 [] S) Q := zW_of zte (f := zf_379) rfl h
theorem zl_atomPattern_p145 {d : Nat} {x1 : Int} {y0 : Int} {S : ZS} {Q : Option (Option ZV) → ZS → Prop} (h : zW (zb_atomPattern_p145 ZL d x1 y0 S) Q) : zW (ZL d 380 [.inl x1, .inl y0] S) Q := zW_of zte (f := zf_380) rfl h
theorem zl_patternRow_p27 {d : Nat} {x1 : Int} {x2 : Int} {x3 : Int} {x4 : Int} {x5 : Int} {S : ZS} {Q : Option (Option ZV) → ZS → Prop} (h : zW (zb_patternRow_p27 ZL d x1 x2 x3 x4 x5 S) Q) : zW (ZL d 381 [.inl x1, .inl x2, .inl x3, .inl x4, .inl x5] S) Q := zW_of zte (f := zf_381) rfl h
theorem zl_patternField_p18 {d : Nat} {x1 : Int} {y0 : Int} {S : ZS} {Q : Option (Option ZV) → ZS → Prop} (h : zW (zb_patternField_p18 ZL d x1 y0 S) Q) : zW (ZL d 382 [.inl x1, .inl y0] S) Q := zW_of zte (f := zf_382) rfl h
theorem zl_tupleType_p56 {d : Nat} {x1 : Int} {x2 : Int} {x3 : Int} {x4 : Int} {S : ZS} {Q : Option (Option ZV) → ZS → Prop} (h : zW (zb_tupleType_p56 ZL d x1 x2 x3 x4 S) Q) : zW (ZL d 383 [.inl x1, .inl x2, .inl x3, .inl x4] S) Q := zW_of zte (f := zf_383) rfl h
theorem zl_suffixed_p5 {d : Nat} {x1 : Int} {S : ZS} {Q : Option (Option ZV) → ZS → Prop} (h : zW (zb_suffixed_p5 ZL d x1 S) Q) : zW (ZL d 384 [.inl x1] S) Q := zW_of zte (f := zf_384) rfl h
theorem zl_atomicType_p74 {d : Nat} {x1 : Int} {S : ZS} {Q : Option (Option ZV) → ZS → Prop} (h : zW (zb_atomicType_p74 ZL d x1 S) Q) : zW (ZL d 385 [.inl x1] S) Q := zW_of zte (f := zf_385) rfl h
theorem zl_typeRow_p20 {d : Nat} {x1 : Int} {x2 : Int} {x3 : Int} {x4 : Int} {S : ZS} {Q : Option (Option ZV) → ZS → Prop} (h : zW (zb_typeRow_p20 ZL d x1 x2 x3 x4 S) Q) : zW (ZL d 386 [.inl x1, .inl x2, .inl x3, .inl x4] S) Q := zW_of zte (f := zf_386) rfl h
theorem zl_typeRow_p94 {d : Nat} {x1 : Int} {x2 : Int} {S : ZS} {Q : Option (Option ZV) → ZS → Prop} (h : zW (zb_typeRow_p94 ZL d x1 x2 S) Q) : zW (ZL d 387 [.inl x1, .inl x2] S) Q := zW_of zte (f := zf_387) rfl h
theorem zl_patternHeld_p15 {d : Nat} {x1 : Int} {x2 : Int} {y0 : Int} {S : ZS} {Q : Option (Option ZV) → ZS → Prop} (h : zW (zb_patternHeld_p15 ZL d x1 x2 y0 S) Q) : zW (ZL d 388 [.inl x1, .inl x2, .inl y0] S) Q := zW_of zte (f := zf_388) rfl h
theorem zl_applications_p5 {d : Nat} {x1 : Int} {S : ZS} {Q : Option (Option ZV) → ZS → Prop} (h : zW (zb_applications_p5 ZL d x1 S) Q) : zW (ZL d 389 [.inl x1] S) Q := zW_of zte (f := zf_389) rfl h
theorem zl_atom_p29 {d : Nat}  {S : ZS} {Q : Option (Option ZV) → ZS → Prop} (h : zW (zb_atom_p29 ZL d  S) Q) : zW (ZL d 390 [] S) Q := zW_of zte (f := zf_390) rfl h
theorem zl_atom_p201 {d : Nat} {x1 : Int} {y0 : Int} {S : ZS} {Q : Option (Option ZV) → ZS → Prop} (h : zW (zb_atom_p201 ZL d x1 y0 S) Q) : zW (ZL d 391 [.inl x1, .inl y0] S) Q := zW_of zte (f := zf_391) rfl h
theorem zl_atom_p155 {d : Nat} {y0 : Int} {y1 : Int} {y2 : Int} {y3 : Int} {S : ZS} {Q : Option (Option ZV) → ZS → Prop} (h : zW (zb_atom_p155 ZL d y0 y1 y2 y3 S) Q) : zW (ZL d 392 [.inl y0, .inl y1, .inl y2, .inl y3] S) Q := zW_of zte (f := zf_392) rfl h
theorem zl_expressionRow_p24 {d : Nat} {x1 : Int} {x2 : Int} {x3 : Int} {x4 : Int} {S : ZS} {Q : Option (Option ZV) → ZS → Prop} (h : zW (zb_expressionRow_p24 ZL d x1 x2 x3 x4 S) Q) : zW (ZL d 393 [.inl x1, .inl x2, .inl x3, .inl x4] S) Q := zW_of zte (f := zf_393) rfl h
theorem zl_expression_p254 {d : Nat} {x2 : Int} {S : ZS} {Q : Option (Option ZV) → ZS → Prop} (h : zW (zb_expression_p254 ZL d x2 S) Q) : zW (ZL d 394 [.inl x2] S) Q := zW_of zte (f := zf_394) rfl h
theorem zl_match_p7 {d : Nat} {x1 : Int} {x2 : Int} {S : ZS} {Q : Option (Option ZV) → ZS → Prop} (h : zW (zb_match_p7 ZL d x1 x2 S) Q) : zW (ZL d 395 [.inl x1, .inl x2] S) Q := zW_of zte (f := zf_395) rfl h
theorem zl_orelse_p5 {d : Nat} {x1 : Int} {S : ZS} {Q : Option (Option ZV) → ZS → Prop} (h : zW (zb_orelse_p5 ZL d x1 S) Q) : zW (ZL d 396 [.inl x1] S) Q := zW_of zte (f := zf_396) rfl h
theorem zl_andalso_p5 {d : Nat} {x1 : Int} {S : ZS} {Q : Option (Option ZV) → ZS → Prop} (h : zW (zb_andalso_p5 ZL d x1 S) Q) : zW (ZL d 397 [.inl x1] S) Q := zW_of zte (f := zf_397) rfl h
theorem zl_typed_p6 {d : Nat} {x1 : Int} {S : ZS} {Q : Option (Option ZV) → ZS → Prop} (h : zW (zb_typed_p6 ZL d x1 S) Q) : zW (ZL d 398 [.inl x1] S) Q := zW_of zte (f := zf_398) rfl h
theorem zl_expressionHeld_p114 {d : Nat} {x1 : Int} {x2 : Int} {x3 : Int} {S : ZS} {Q : Option (Option ZV) → ZS → Prop} (h : zW (zb_expressionHeld_p114 ZL d x1 x2 x3 S) Q) : zW (ZL d 399 [.inl x1, .inl x2, .inl x3] S) Q := zW_of zte (f := zf_399) rfl h
theorem zl_row_p7 {d : Nat} {x1 : Int} {x2 : Int} {x3 : Int} {S : ZS} {Q : Option (Option ZV) → ZS → Prop} (h : zW (zb_row_p7 ZL d x1 x2 x3 S) Q) : zW (ZL d 400 [.inl x1, .inl x2, .inl x3] S) Q := zW_of zte (f := zf_400) rfl h
theorem zl_let_p25 {d : Nat} {x1 : Int} {x2 : Int} {y0 : Int} {S : ZS} {Q : Option (Option ZV) → ZS → Prop} (h : zW (zb_let_p25 ZL d x1 x2 y0 S) Q) : zW (ZL d 401 [.inl x1, .inl x2, .inl y0] S) Q := zW_of zte (f := zf_401) rfl h
theorem zl_isInfixHere_p17 {d : Nat}  {S : ZS} {Q : Option (Option ZV) → ZS → Prop} (h : zW (zb_isInfixHere_p17 ZL d  S) Q) : zW (ZL d 402 [] S) Q := zW_of zte (f := zf_402) rfl h
theorem zl_reduce_p88 {d : Nat} {x2 : Int} {x3 : Int} {x4 : Int} {x5 : Int} {y0 : Int} {y2 : Int} {S : ZS} {Q : Option (Option ZV) → ZS → Prop} (h : zW (zb_reduce_p88 ZL d x2 x3 x4 x5 y0 y2 S) Q) : zW (ZL d 403 [.inl x2, .inl x3, .inl x4, .inl x5, .inl y0, .inl y2] S) Q := zW_of zte (f := zf_403) rfl h
theorem zl_functions_p6 {d : Nat} {x1 : Int} {x2 : Int} {x3 : Int} {S : ZS} {Q : Option (Option ZV) → ZS → Prop} (h : zW (zb_functions_p6 ZL d x1 x2 x3 S) Q) : zW (ZL d 404 [.inl x1, .inl x2, .inl x3] S) Q := zW_of zte (f := zf_404) rfl h
theorem zl_clauses_p7 {d : Nat} {x1 : Int} {x2 : Int} {S : ZS} {Q : Option (Option ZV) → ZS → Prop} (h : zW (zb_clauses_p7 ZL d x1 x2 S) Q) : zW (ZL d 405 [.inl x1, .inl x2] S) Q := zW_of zte (f := zf_405) rfl h
theorem zl_clause_p29 {d : Nat} {x1 : Int} {y0 : Int} {S : ZS} {Q : Option (Option ZV) → ZS → Prop} (h : zW (zb_clause_p29 ZL d x1 y0 S) Q) : zW (ZL d 406 [.inl x1, .inl y0] S) Q := zW_of zte (f := zf_406) rfl h
theorem zl_variables_p50 {d : Nat} {x1 : Int} {x2 : Int} {x3 : Int} {S : ZS} {Q : Option (Option ZV) → ZS → Prop} (h : zW (zb_variables_p50 ZL d x1 x2 x3 S) Q) : zW (ZL d 407 [.inl x1, .inl x2, .inl x3] S) Q := zW_of zte (f := zf_407) rfl h
theorem zl_datas_p6 {d : Nat} {x1 : Int} {x2 : Int} {x3 : Int} {S : ZS} {Q : Option (Option ZV) → ZS → Prop} (h : zW (zb_datas_p6 ZL d x1 x2 x3 S) Q) : zW (ZL d 408 [.inl x1, .inl x2, .inl x3] S) Q := zW_of zte (f := zf_408) rfl h
theorem zl_constructors_p6 {d : Nat} {x1 : Int} {x2 : Int} {x3 : Int} {S : ZS} {Q : Option (Option ZV) → ZS → Prop} (h : zW (zb_constructors_p6 ZL d x1 x2 x3 S) Q) : zW (ZL d 409 [.inl x1, .inl x2, .inl x3] S) Q := zW_of zte (f := zf_409) rfl h
theorem zl_exception_p27 {d : Nat} {x1 : Int} {x3 : Int} {y0 : Int} {S : ZS} {Q : Option (Option ZV) → ZS → Prop} (h : zW (zb_exception_p27 ZL d x1 x3 y0 S) Q) : zW (ZL d 410 [.inl x1, .inl x3, .inl y0] S) Q := zW_of zte (f := zf_410) rfl h
theorem zl_infixes_p11 {d : Nat} {x1 : Int} {x2 : Int} {y0 : Int} {S : ZS} {Q : Option (Option ZV) → ZS → Prop} (h : zW (zb_infixes_p11 ZL d x1 x2 y0 S) Q) : zW (ZL d 411 [.inl x1, .inl x2, .inl y0] S) Q := zW_of zte (f := zf_411) rfl h
theorem zl_judgedVal_p42 {d : Nat} {x2 : Int} {x3 : Int} {x4 : Int} {x5 : Int} {x6 : Int} {S : ZS} {Q : Option (Option ZV) → ZS → Prop} (h : zW (zb_judgedVal_p42 ZL d x2 x3 x4 x5 x6 S) Q) : zW (ZL d 412 [.inl x2, .inl x3, .inl x4, .inl x5, .inl x6] S) Q := zW_of zte (f := zf_412) rfl h
theorem zl_enterVariables_p23 {d : Nat} {x2 : Int} {x3 : Int} {S : ZS} {Q : Option (Option ZV) → ZS → Prop} (h : zW (zb_enterVariables_p23 ZL d x2 x3 S) Q) : zW (ZL d 413 [.inl x2, .inl x3] S) Q := zW_of zte (f := zf_413) rfl h
theorem zl_lookAll_p2 {d : Nat} {x2 : Int} {x3 : Int} {S : ZS} {Q : Option (Option ZV) → ZS → Prop} (h : zW (zb_lookAll_p2 ZL d x2 x3 S) Q) : zW (ZL d 414 [.inl x2, .inl x3] S) Q := zW_of zte (f := zf_414) rfl h
theorem zl_look_p2 {d : Nat} {x2 : Int} {x3 : Int} {S : ZS} {Q : Option (Option ZV) → ZS → Prop} (h : zW (zb_look_p2 ZL d x2 x3 S) Q) : zW (ZL d 415 [.inl x2, .inl x3] S) Q := zW_of zte (f := zf_415) rfl h
theorem zl_found_p2 {d : Nat} {x1 : Int} {x2 : Int} {x3 : Int} {S : ZS} {Q : Option (Option ZV) → ZS → Prop} (h : zW (zb_found_p2 ZL d x1 x2 x3 S) Q) : zW (ZL d 416 [.inl x1, .inl x2, .inl x3] S) Q := zW_of zte (f := zf_416) rfl h
theorem zl_patternName_p43 {d : Nat} {x1 : Int} {x2 : Int} {x3 : Int} {y0 : Int} {S : ZS} {Q : Option (Option ZV) → ZS → Prop} (h : zW (zb_patternName_p43 ZL d x1 x2 x3 y0 S) Q) : zW (ZL d 417 [.inl x1, .inl x2, .inl x3, .inl y0] S) Q := zW_of zte (f := zf_417) rfl h
theorem zl_valueOf_p5 {d : Nat} {x1 : Int} {x2 : Int} {S : ZS} {Q : Option (Option ZV) → ZS → Prop} (h : zW (zb_valueOf_p5 ZL d x1 x2 S) Q) : zW (ZL d 418 [.inl x1, .inl x2] S) Q := zW_of zte (f := zf_418) rfl h
theorem zl_hasArgument_p35 {d : Nat} {y0 : Int} {S : ZS} {Q : Option (Option ZV) → ZS → Prop} (h : zW (zb_hasArgument_p35 ZL d y0 S) Q) : zW (ZL d 419 [.inl y0] S) Q := zW_of zte (f := zf_419) rfl h
theorem zl_meet_p69 {d : Nat} {x1 : Int} {x2 : Int} {S : ZS} {Q : Option (Option ZV) → ZS → Prop} (h : zW (zb_meet_p69 ZL d x1 x2 S) Q) : zW (ZL d 420 [.inl x1, .inl x2] S) Q := zW_of zte (f := zf_420) rfl h
theorem zl_use_p18 {d : Nat} {x1 : Int} {x3 : Int} {S : ZS} {Q : Option (Option ZV) → ZS → Prop} (h : zW (zb_use_p18 ZL d x1 x3 S) Q) : zW (ZL d 421 [.inl x1, .inl x3] S) Q := zW_of zte (f := zf_421) rfl h
theorem zl_isUsed_p7 {d : Nat} {x2 : Int} {x3 : Int} {S : ZS} {Q : Option (Option ZV) → ZS → Prop} (h : zW (zb_isUsed_p7 ZL d x2 x3 S) Q) : zW (ZL d 422 [.inl x2, .inl x3] S) Q := zW_of zte (f := zf_422) rfl h
theorem zl_readSign_p31 {d : Nat} {x1 : Int} {x2 : Int} {x3 : Int} {S : ZS} {Q : Option (Option ZV) → ZS → Prop} (h : zW (zb_readSign_p31 ZL d x1 x2 x3 S) Q) : zW (ZL d 423 [.inl x1, .inl x2, .inl x3] S) Q := zW_of zte (f := zf_423) rfl h
theorem zl_readSign_p134 {d : Nat} {x1 : Int} {x2 : Int} {y0 : Int} {S : ZS} {Q : Option (Option ZV) → ZS → Prop} (h : zW (zb_readSign_p134 ZL d x1 x2 y0 S) Q) : zW (ZL d 424 [.inl x1, .inl x2, .inl y0] S) Q := zW_of zte (f := zf_424) rfl h
theorem zl_instanceOf_p28 {d : Nat} {x2 : Int} {x3 : Int} {S : ZS} {Q : Option (Option ZV) → ZS → Prop} (h : zW (zb_instanceOf_p28 ZL d x2 x3 S) Q) : zW (ZL d 425 [.inl x2, .inl x3] S) Q := zW_of zte (f := zf_425) rfl h
theorem zl_enter_p37 {d : Nat} {x1 : Int} {x2 : Int} {S : ZS} {Q : Option (Option ZV) → ZS → Prop} (h : zW (zb_enter_p37 ZL d x1 x2 S) Q) : zW (ZL d 426 [.inl x1, .inl x2] S) Q := zW_of zte (f := zf_426) rfl h
theorem zl_copied_p9 {d : Nat} {x1 : Int} {x2 : Int} {x3 : Int} {S : ZS} {Q : Option (Option ZV) → ZS → Prop} (h : zW (zb_copied_p9 ZL d x1 x2 x3 S) Q) : zW (ZL d 427 [.inl x1, .inl x2, .inl x3] S) Q := zW_of zte (f := zf_427) rfl h
theorem zl_pend_p21 {d : Nat} {x1 : Int} {x2 : Int} {x3 : Int} {S : ZS} {Q : Option (Option ZV) → ZS → Prop} (h : zW (zb_pend_p21 ZL d x1 x2 x3 S) Q) : zW (ZL d 428 [.inl x1, .inl x2, .inl x3] S) Q := zW_of zte (f := zf_428) rfl h
theorem zl_patternCon_p48 {d : Nat} {x1 : Int} {x2 : Int} {S : ZS} {Q : Option (Option ZV) → ZS → Prop} (h : zW (zb_patternCon_p48 ZL d x1 x2 S) Q) : zW (ZL d 429 [.inl x1, .inl x2] S) Q := zW_of zte (f := zf_429) rfl h
theorem zl_patternCon_p56 {d : Nat} {x1 : Int} {S : ZS} {Q : Option (Option ZV) → ZS → Prop} (h : zW (zb_patternCon_p56 ZL d x1 S) Q) : zW (ZL d 430 [.inl x1] S) Q := zW_of zte (f := zf_430) rfl h
theorem zl_joined_p18 {d : Nat} {x1 : Int} {x3 : Int} {S : ZS} {Q : Option (Option ZV) → ZS → Prop} (h : zW (zb_joined_p18 ZL d x1 x3 S) Q) : zW (ZL d 431 [.inl x1, .inl x3] S) Q := zW_of zte (f := zf_431) rfl h
theorem zl_merge_p51 {d : Nat} {x1 : Int} {x2 : Int} {S : ZS} {Q : Option (Option ZV) → ZS → Prop} (h : zW (zb_merge_p51 ZL d x1 x2 S) Q) : zW (ZL d 432 [.inl x1, .inl x2] S) Q := zW_of zte (f := zf_432) rfl h
theorem zl_mergeRows_p17 {d : Nat} {x1 : Int} {x2 : Int} {y0 : Int} {S : ZS} {Q : Option (Option ZV) → ZS → Prop} (h : zW (zb_mergeRows_p17 ZL d x1 x2 y0 S) Q) : zW (ZL d 433 [.inl x1, .inl x2, .inl y0] S) Q := zW_of zte (f := zf_433) rfl h
theorem zl_partOf_p2 {d : Nat} {x2 : Int} {x3 : Int} {S : ZS} {Q : Option (Option ZV) → ZS → Prop} (h : zW (zb_partOf_p2 ZL d x2 x3 S) Q) : zW (ZL d 434 [.inl x2, .inl x3] S) Q := zW_of zte (f := zf_434) rfl h
theorem zl_allFields_p18 {d : Nat} {x1 : Int} {x2 : Int} {y0 : Int} {S : ZS} {Q : Option (Option ZV) → ZS → Prop} (h : zW (zb_allFields_p18 ZL d x1 x2 y0 S) Q) : zW (ZL d 435 [.inl x1, .inl x2, .inl y0] S) Q := zW_of zte (f := zf_435) rfl h
theorem zl_fieldsFrom_p4 {d : Nat} {x2 : Int} {x3 : Int} {S : ZS} {Q : Option (Option ZV) → ZS → Prop} (h : zW (zb_fieldsFrom_p4 ZL d x2 x3 S) Q) : zW (ZL d 436 [.inl x2, .inl x3] S) Q := zW_of zte (f := zf_436) rfl h
theorem zl_mergeMade_p38 {d : Nat} {x3 : Int} {x4 : Int} {S : ZS} {Q : Option (Option ZV) → ZS → Prop} (h : zW (zb_mergeMade_p38 ZL d x3 x4 S) Q) : zW (ZL d 437 [.inl x3, .inl x4] S) Q := zW_of zte (f := zf_437) rfl h
theorem zl_isEndless_p54 {d : Nat} {x1 : Int} {y0 : Int} {y1 : Int} {S : ZS} {Q : Option (Option ZV) → ZS → Prop} (h : zW (zb_isEndless_p54 ZL d x1 y0 y1 S) Q) : zW (ZL d 438 [.inl x1, .inl y0, .inl y1] S) Q := zW_of zte (f := zf_438) rfl h
theorem zl_admit_p121 {d : Nat} {x1 : Int} {S : ZS} {Q : Option (Option ZV) → ZS → Prop} (h : zW (zb_admit_p121 ZL d x1 S) Q) : zW (ZL d 439 [.inl x1] S) Q := zW_of zte (f := zf_439) rfl h
theorem zl_patternTuple_p12 {d : Nat} {x2 : Int} {x3 : Int} {x4 : Int} {S : ZS} {Q : Option (Option ZV) → ZS → Prop} (h : zW (zb_patternTuple_p12 ZL d x2 x3 x4 S) Q) : zW (ZL d 440 [.inl x2, .inl x3, .inl x4] S) Q := zW_of zte (f := zf_440) rfl h
theorem zl_patternParts_p9 {d : Nat} {x1 : Int} {x2 : Int} {x3 : Int} {S : ZS} {Q : Option (Option ZV) → ZS → Prop} (h : zW (zb_patternParts_p9 ZL d x1 x2 x3 S) Q) : zW (ZL d 441 [.inl x1, .inl x2, .inl x3] S) Q := zW_of zte (f := zf_441) rfl h
theorem zl_patternList_p9 {d : Nat} {x2 : Int} {x3 : Int} {S : ZS} {Q : Option (Option ZV) → ZS → Prop} (h : zW (zb_patternList_p9 ZL d x2 x3 S) Q) : zW (ZL d 442 [.inl x2, .inl x3] S) Q := zW_of zte (f := zf_442) rfl h
theorem zl_toldVariable_p7 {d : Nat} {x1 : Int} {x2 : Int} {S : ZS} {Q : Option (Option ZV) → ZS → Prop} (h : zW (zb_toldVariable_p7 ZL d x1 x2 S) Q) : zW (ZL d 443 [.inl x1, .inl x2] S) Q := zW_of zte (f := zf_443) rfl h
theorem zl_toldName_p7 {d : Nat} {x2 : Int} {x3 : Int} {S : ZS} {Q : Option (Option ZV) → ZS → Prop} (h : zW (zb_toldName_p7 ZL d x2 x3 S) Q) : zW (ZL d 444 [.inl x2, .inl x3] S) Q := zW_of zte (f := zf_444) rfl h
theorem zl_toldOne_p16 {d : Nat} {x1 : Int} {x2 : Int} {x3 : Int} {x4 : Int} {x5 : Int} {x6 : Int} {S : ZS} {Q : Option (Option ZV) → ZS → Prop} (h : zW (zb_toldOne_p16 ZL d x1 x2 x3 x4 x5 x6 S) Q) : zW (ZL d 445 [.inl x1, .inl x2, .inl x3, .inl x4, .inl x5, .inl x6] S) Q := zW_of zte (f := zf_445) rfl h
theorem zl_typeNamed_p5 {d : Nat} {x1 : Int} {x2 : Int} {S : ZS} {Q : Option (Option ZV) → ZS → Prop} (h : zW (zb_typeNamed_p5 ZL d x1 x2 S) Q) : zW (ZL d 446 [.inl x1, .inl x2] S) Q := zW_of zte (f := zf_446) rfl h
theorem zl_standsFor_p7 {d : Nat} {x1 : Int} {x3 : Int} {S : ZS} {Q : Option (Option ZV) → ZS → Prop} (h : zW (zb_standsFor_p7 ZL d x1 x3 S) Q) : zW (ZL d 447 [.inl x1, .inl x3] S) Q := zW_of zte (f := zf_447) rfl h
theorem zl_toldRow_p9 {d : Nat} {x2 : Int} {x3 : Int} {S : ZS} {Q : Option (Option ZV) → ZS → Prop} (h : zW (zb_toldRow_p9 ZL d x2 x3 S) Q) : zW (ZL d 448 [.inl x2, .inl x3] S) Q := zW_of zte (f := zf_448) rfl h
theorem zl_patternAs_p49 {d : Nat} {x1 : Int} {S : ZS} {Q : Option (Option ZV) → ZS → Prop} (h : zW (zb_patternAs_p49 ZL d x1 S) Q) : zW (ZL d 449 [.inl x1] S) Q := zW_of zte (f := zf_449) rfl h
theorem zl_patternAs_p36 {d : Nat} {x1 : Int} {S : ZS} {Q : Option (Option ZV) → ZS → Prop} (h : zW (zb_patternAs_p36 ZL d x1 S) Q) : zW (ZL d 450 [.inl x1] S) Q := zW_of zte (f := zf_450) rfl h
theorem zl_judgedName_p90 {d : Nat} {x4 : Int} {y0 : Int} {y1 : Int} {S : ZS} {Q : Option (Option ZV) → ZS → Prop} (h : zW (zb_judgedName_p90 ZL d x4 y0 y1 S) Q) : zW (ZL d 451 [.inl x4, .inl y0, .inl y1] S) Q := zW_of zte (f := zf_451) rfl h
theorem zl_judgedRow_p9 {d : Nat} {x2 : Int} {x3 : Int} {S : ZS} {Q : Option (Option ZV) → ZS → Prop} (h : zW (zb_judgedRow_p9 ZL d x2 x3 S) Q) : zW (ZL d 452 [.inl x2, .inl x3] S) Q := zW_of zte (f := zf_452) rfl h
theorem zl_judgedTuple_p12 {d : Nat} {x2 : Int} {x3 : Int} {x4 : Int} {S : ZS} {Q : Option (Option ZV) → ZS → Prop} (h : zW (zb_judgedTuple_p12 ZL d x2 x3 x4 S) Q) : zW (ZL d 453 [.inl x2, .inl x3, .inl x4] S) Q := zW_of zte (f := zf_453) rfl h
theorem zl_judgedApplication_p4 {d : Nat} {x1 : Int} {x2 : Int} {x3 : Int} {S : ZS} {Q : Option (Option ZV) → ZS → Prop} (h : zW (zb_judgedApplication_p4 ZL d x1 x2 x3 S) Q) : zW (ZL d 454 [.inl x1, .inl x2, .inl x3] S) Q := zW_of zte (f := zf_454) rfl h
theorem zl_rules_p12 {d : Nat} {x4 : Int} {x5 : Int} {x6 : Int} {x7 : Int} {x9 : Int} {S : ZS} {Q : Option (Option ZV) → ZS → Prop} (h : zW (zb_rules_p12 ZL d x4 x5 x6 x7 x9 S) Q) : zW (ZL d 455 [.inl x4, .inl x5, .inl x6, .inr (.inl x7), .inl x9] S) Q := zW_of zte (f := zf_455) rfl h
theorem zl_bindPending_p2 {d : Nat} {x1 : Int} {x2 : Int} {S : ZS} {Q : Option (Option ZV) → ZS → Prop} (h : zW (zb_bindPending_p2 ZL d x1 x2 S) Q) : zW (ZL d 456 [.inl x1, .inl x2] S) Q := zW_of zte (f := zf_456) rfl h
theorem zl_countOf_p184 {d : Nat} {x3 : Int} {x4 : Int} {S : ZS} {Q : Option (Option ZV) → ZS → Prop} (h : zW (zb_countOf_p184 ZL d x3 x4 S) Q) : zW (ZL d 457 [.inl x3, .inl x4] S) Q := zW_of zte (f := zf_457) rfl h
theorem zl_countOf_p229 {d : Nat} {x4 : Int} {x5 : Int} {S : ZS} {Q : Option (Option ZV) → ZS → Prop} (h : zW (zb_countOf_p229 ZL d x4 x5 S) Q) : zW (ZL d 458 [.inl x4, .inl x5] S) Q := zW_of zte (f := zf_458) rfl h
theorem zl_countOf_p138 {d : Nat} {x2 : Int} {x3 : Int} {S : ZS} {Q : Option (Option ZV) → ZS → Prop} (h : zW (zb_countOf_p138 ZL d x2 x3 S) Q) : zW (ZL d 459 [.inl x2, .inl x3] S) Q := zW_of zte (f := zf_459) rfl h
theorem zl_times_p13 {d : Nat} {x4 : Int} {y0 : Int} {S : ZS} {Q : Option (Option ZV) → ZS → Prop} (h : zW (zb_times_p13 ZL d x4 y0 S) Q) : zW (ZL d 460 [.inl x4, .inr (.inl y0)] S) Q := zW_of zte (f := zf_460) rfl h
theorem zl_endCode_p19 {d : Nat} {x1 : Int} {x2 : Int} {x3 : Int} {S : ZS} {Q : Option (Option ZV) → ZS → Prop} (h : zW (zb_endCode_p19 ZL d x1 x2 x3 S) Q) : zW (ZL d 461 [.inl x1, .inl x2, .inl x3] S) Q := zW_of zte (f := zf_461) rfl h
theorem zl_judgedOther_p245 {d : Nat} {x7 : Int} {x8 : Int} {S : ZS} {Q : Option (Option ZV) → ZS → Prop} (h : zW (zb_judgedOther_p245 ZL d x7 x8 S) Q) : zW (ZL d 462 [.inl x7, .inl x8] S) Q := zW_of zte (f := zf_462) rfl h
theorem zl_judgedSequence_p4 {d : Nat} {x2 : Int} {x3 : Int} {S : ZS} {Q : Option (Option ZV) → ZS → Prop} (h : zW (zb_judgedSequence_p4 ZL d x2 x3 S) Q) : zW (ZL d 463 [.inl x2, .inl x3] S) Q := zW_of zte (f := zf_463) rfl h
theorem zl_judgedLet_p40 {d : Nat} {x1 : Int} {x2 : Int} {x3 : Int} {x4 : Int} {x5 : Int} {x6 : Int} {S : ZS} {Q : Option (Option ZV) → ZS → Prop} (h : zW (zb_judgedLet_p40 ZL d x1 x2 x3 x4 x5 x6 S) Q) : zW (ZL d 464 [.inl x1, .inl x2, .inl x3, .inl x4, .inl x5, .inl x6] S) Q := zW_of zte (f := zf_464) rfl h
theorem zl_does_p115 {d : Nat} {x2 : Int} {x3 : Int} {S : ZS} {Q : Option (Option ZV) → ZS → Prop} (h : zW (zb_does_p115 ZL d x2 x3 S) Q) : zW (ZL d 465 [.inl x2, .inl x3] S) Q := zW_of zte (f := zf_465) rfl h
theorem zl_does_p165 {d : Nat} {x3 : Int} {x4 : Int} {S : ZS} {Q : Option (Option ZV) → ZS → Prop} (h : zW (zb_does_p165 ZL d x3 x4 S) Q) : zW (ZL d 466 [.inl x3, .inl x4] S) Q := zW_of zte (f := zf_466) rfl h
theorem zl_isMaker_p21 {d : Nat} {x1 : Int} {S : ZS} {Q : Option (Option ZV) → ZS → Prop} (h : zW (zb_isMaker_p21 ZL d x1 S) Q) : zW (ZL d 467 [.inl x1] S) Q := zW_of zte (f := zf_467) rfl h
theorem zl_through_p3 {d : Nat} {x1 : Int} {x2 : Int} {x3 : Int} {x4 : Int} {S : ZS} {Q : Option (Option ZV) → ZS → Prop} (h : zW (zb_through_p3 ZL d x1 x2 x3 x4 S) Q) : zW (ZL d 468 [.inl x1, .inl x2, .inl x3, .inl x4] S) Q := zW_of zte (f := zf_468) rfl h
theorem zl_sizeOf_p40 {d : Nat} {x2 : Int} {x3 : Int} {S : ZS} {Q : Option (Option ZV) → ZS → Prop} (h : zW (zb_sizeOf_p40 ZL d x2 x3 S) Q) : zW (ZL d 469 [.inl x2, .inl x3] S) Q := zW_of zte (f := zf_469) rfl h
theorem zl_enterSize_p39 {d : Nat} {x1 : Int} {x2 : Int} {S : ZS} {Q : Option (Option ZV) → ZS → Prop} (h : zW (zb_enterSize_p39 ZL d x1 x2 S) Q) : zW (ZL d 470 [.inl x1, .inl x2] S) Q := zW_of zte (f := zf_470) rfl h
theorem zl_markRim_p2 {d : Nat} {x1 : Int} {x2 : Int} {x3 : Int} {S : ZS} {Q : Option (Option ZV) → ZS → Prop} (h : zW (zb_markRim_p2 ZL d x1 x2 x3 S) Q) : zW (ZL d 471 [.inl x1, .inl x2, .inl x3] S) Q := zW_of zte (f := zf_471) rfl h
theorem zl_spreadRim_p38 {d : Nat} {x2 : Int} {x4 : Int} {S : ZS} {Q : Option (Option ZV) → ZS → Prop} (h : zW (zb_spreadRim_p38 ZL d x2 x4 S) Q) : zW (ZL d 472 [.inl x2, .inl x4] S) Q := zW_of zte (f := zf_472) rfl h
theorem zl_generalise_p35 {d : Nat} {x3 : Int} {S : ZS} {Q : Option (Option ZV) → ZS → Prop} (h : zW (zb_generalise_p35 ZL d x3 S) Q) : zW (ZL d 473 [.inl x3] S) Q := zW_of zte (f := zf_473) rfl h
theorem zl_bindLines_p2 {d : Nat} {x1 : Int} {x2 : Int} {S : ZS} {Q : Option (Option ZV) → ZS → Prop} (h : zW (zb_bindLines_p2 ZL d x1 x2 S) Q) : zW (ZL d 474 [.inl x1, .inl x2] S) Q := zW_of zte (f := zf_474) rfl h
theorem zl_judgedRec_p48 {d : Nat} {x1 : Int} {x2 : Int} {x3 : Int} {x4 : Int} {x5 : Int} {x6 : Int} {x7 : Int} {S : ZS} {Q : Option (Option ZV) → ZS → Prop} (h : zW (zb_judgedRec_p48 ZL d x1 x2 x3 x4 x5 x6 x7 S) Q) : zW (ZL d 475 [.inl x1, .inl x2, .inl x3, .inl x4, .inl x5, .inl x6, .inl x7] S) Q := zW_of zte (f := zf_475) rfl h
theorem zl_judgedFun_p48 {d : Nat} {x1 : Int} {x2 : Int} {x3 : Int} {x4 : Int} {x5 : Int} {x6 : Int} {x7 : Int} {S : ZS} {Q : Option (Option ZV) → ZS → Prop} (h : zW (zb_judgedFun_p48 ZL d x1 x2 x3 x4 x5 x6 x7 S) Q) : zW (ZL d 476 [.inl x1, .inl x2, .inl x3, .inl x4, .inl x5, .inl x6, .inl x7] S) Q := zW_of zte (f := zf_476) rfl h
theorem zl_judgedFunction_p18 {d : Nat} {x1 : Int} {x2 : Int} {x3 : Int} {x4 : Int} {x5 : Int} {S : ZS} {Q : Option (Option ZV) → ZS → Prop} (h : zW (zb_judgedFunction_p18 ZL d x1 x2 x3 x4 x5 S) Q) : zW (ZL d 477 [.inl x1, .inl x2, .inl x3, .inl x4, .inl x5] S) Q := zW_of zte (f := zf_477) rfl h
theorem zl_judgedClause_p53 {d : Nat} {x1 : Int} {x2 : Int} {x3 : Int} {x4 : Int} {x5 : Int} {x6 : Int} {x7 : Int} {x8 : Int} {S : ZS} {Q : Option (Option ZV) → ZS → Prop} (h : zW (zb_judgedClause_p53 ZL d x1 x2 x3 x4 x5 x6 x7 x8 S) Q) : zW (ZL d 478 [.inl x1, .inl x2, .inl x3, .inl x4, .inl x5, .inl x6, .inl x7, .inl x8] S) Q := zW_of zte (f := zf_478) rfl h
theorem zl_judgedType_p96 {d : Nat} {x1 : Int} {x2 : Int} {x3 : Int} {x4 : Int} {x5 : Int} {x6 : Int} {x7 : Int} {S : ZS} {Q : Option (Option ZV) → ZS → Prop} (h : zW (zb_judgedType_p96 ZL d x1 x2 x3 x4 x5 x6 x7 S) Q) : zW (ZL d 479 [.inl x1, .inl x2, .inl x3, .inl x4, .inl x5, .inl x6, .inl x7] S) Q := zW_of zte (f := zf_479) rfl h
theorem zl_listed_p10 {d : Nat} {x2 : Int} {x3 : Int} {x4 : Int} {x5 : Int} {S : ZS} {Q : Option (Option ZV) → ZS → Prop} (h : zW (zb_listed_p10 ZL d x2 x3 x4 x5 S) Q) : zW (ZL d 480 [.inl x2, .inl x3, .inl x4, .inl x5] S) Q := zW_of zte (f := zf_480) rfl h
theorem zl_judgedData_p43 {d : Nat} {x1 : Int} {x2 : Int} {x3 : Int} {x4 : Int} {x5 : Int} {x6 : Int} {S : ZS} {Q : Option (Option ZV) → ZS → Prop} (h : zW (zb_judgedData_p43 ZL d x1 x2 x3 x4 x5 x6 S) Q) : zW (ZL d 481 [.inl x1, .inl x2, .inl x3, .inl x4, .inl x5, .inl x6] S) Q := zW_of zte (f := zf_481) rfl h
theorem zl_judgedCons_p45 {d : Nat} {x2 : Int} {x3 : Int} {x4 : Int} {x5 : Int} {S : ZS} {Q : Option (Option ZV) → ZS → Prop} (h : zW (zb_judgedCons_p45 ZL d x2 x3 x4 x5 S) Q) : zW (ZL d 482 [.inl x2, .inl x3, .inl x4, .inl x5] S) Q := zW_of zte (f := zf_482) rfl h
theorem zl_admits_p35 {d : Nat} {x3 : Int} {S : ZS} {Q : Option (Option ZV) → ZS → Prop} (h : zW (zb_admits_p35 ZL d x3 S) Q) : zW (ZL d 483 [.inl x3] S) Q := zW_of zte (f := zf_483) rfl h
theorem zl_judgedException_p70 {d : Nat} {x1 : Int} {x2 : Int} {y0 : Int} {S : ZS} {Q : Option (Option ZV) → ZS → Prop} (h : zW (zb_judgedException_p70 ZL d x1 x2 y0 S) Q) : zW (ZL d 484 [.inl x1, .inl x2, .inl y0] S) Q := zW_of zte (f := zf_484) rfl h
theorem zl_judgedLocal_p29 {d : Nat} {x1 : Int} {x2 : Int} {x3 : Int} {x4 : Int} {x5 : Int} {S : ZS} {Q : Option (Option ZV) → ZS → Prop} (h : zW (zb_judgedLocal_p29 ZL d x1 x2 x3 x4 x5 S) Q) : zW (ZL d 485 [.inl x1, .inl x2, .inl x3, .inl x4, .inl x5] S) Q := zW_of zte (f := zf_485) rfl h
theorem zl_finish_p4 {d : Nat} {x1 : Int} {x2 : Int} {S : ZS} {Q : Option (Option ZV) → ZS → Prop} (h : zW (zb_finish_p4 ZL d x1 x2 S) Q) : zW (ZL d 486 [.inl x1, .inl x2] S) Q := zW_of zte (f := zf_486) rfl h
theorem zl_hasUnknown_p35 {d : Nat} {x3 : Int} {S : ZS} {Q : Option (Option ZV) → ZS → Prop} (h : zW (zb_hasUnknown_p35 ZL d x3 S) Q) : zW (ZL d 487 [.inl x3] S) Q := zW_of zte (f := zf_487) rfl h
theorem zl_noteAll_p7 {d : Nat} {x1 : Int} {S : ZS} {Q : Option (Option ZV) → ZS → Prop} (h : zW (zb_noteAll_p7 ZL d x1 S) Q) : zW (ZL d 488 [.inl x1] S) Q := zW_of zte (f := zf_488) rfl h
theorem zl_isUseful_p25 {d : Nat} {x1 : Int} {x2 : Int} {x3 : Int} {x4 : Int} {x5 : Int} {x6 : Int} {S : ZS} {Q : Option (Option ZV) → ZS → Prop} (h : zW (zb_isUseful_p25 ZL d x1 x2 x3 x4 x5 x6 S) Q) : zW (ZL d 489 [.inl x1, .inl x2, .inl x3, .inl x4, .inl x5, .inl x6] S) Q := zW_of zte (f := zf_489) rfl h
theorem zl_usefulHere_p59 {d : Nat} {x1 : Int} {x3 : Int} {x4 : Int} {x5 : Int} {x6 : Int} {x7 : Int} {S : ZS} {Q : Option (Option ZV) → ZS → Prop} (h : zW (zb_usefulHere_p59 ZL d x1 x3 x4 x5 x6 x7 S) Q) : zW (ZL d 490 [.inl x1, .inl x3, .inl x4, .inl x5, .inl x6, .inl x7] S) Q := zW_of zte (f := zf_490) rfl h
theorem zl_takesAll_p2 {d : Nat} {x1 : Int} {S : ZS} {Q : Option (Option ZV) → ZS → Prop} (h : zW (zb_takesAll_p2 ZL d x1 S) Q) : zW (ZL d 491 [.inl x1] S) Q := zW_of zte (f := zf_491) rfl h
theorem zl_bare0_p2 {d : Nat} {x2 : Int} {S : ZS} {Q : Option (Option ZV) → ZS → Prop} (h : zW (zb_bare0_p2 ZL d x2 S) Q) : zW (ZL d 492 [.inl x2] S) Q := zW_of zte (f := zf_492) rfl h
theorem zl_headOf_p90 {d : Nat} {y0 : Int} {S : ZS} {Q : Option (Option ZV) → ZS → Prop} (h : zW (zb_headOf_p90 ZL d y0 S) Q) : zW (ZL d 493 [.inl y0] S) Q := zW_of zte (f := zf_493) rfl h
theorem zl_rowStep_p7 {d : Nat} {x1 : Int} {S : ZS} {Q : Option (Option ZV) → ZS → Prop} (h : zW (zb_rowStep_p7 ZL d x1 S) Q) : zW (ZL d 494 [.inl x1] S) Q := zW_of zte (f := zf_494) rfl h
theorem zl_labelsOf_p74 {d : Nat} {x2 : Int} {x3 : Int} {S : ZS} {Q : Option (Option ZV) → ZS → Prop} (h : zW (zb_labelsOf_p74 ZL d x2 x3 S) Q) : zW (ZL d 495 [.inl x2, .inl x3] S) Q := zW_of zte (f := zf_495) rfl h
theorem zl_labelsOf_p119 {d : Nat} {x2 : Int} {S : ZS} {Q : Option (Option ZV) → ZS → Prop} (h : zW (zb_labelsOf_p119 ZL d x2 S) Q) : zW (ZL d 496 [.inl x2] S) Q := zW_of zte (f := zf_496) rfl h
theorem zl_labelsOf_p15 {d : Nat} {x1 : Int} {x2 : Int} {S : ZS} {Q : Option (Option ZV) → ZS → Prop} (h : zW (zb_labelsOf_p15 ZL d x1 x2 S) Q) : zW (ZL d 497 [.inl x1, .inl x2] S) Q := zW_of zte (f := zf_497) rfl h
theorem zl_partAt_p118 {d : Nat} {x2 : Int} {x3 : Int} {x4 : Int} {S : ZS} {Q : Option (Option ZV) → ZS → Prop} (h : zW (zb_partAt_p118 ZL d x2 x3 x4 S) Q) : zW (ZL d 498 [.inl x2, .inl x3, .inl x4] S) Q := zW_of zte (f := zf_498) rfl h
theorem zl_partAt_p149 {d : Nat} {x2 : Int} {x3 : Int} {S : ZS} {Q : Option (Option ZV) → ZS → Prop} (h : zW (zb_partAt_p149 ZL d x2 x3 S) Q) : zW (ZL d 499 [.inl x2, .inl x3] S) Q := zW_of zte (f := zf_499) rfl h
theorem zl_hasLabel_p2 {d : Nat} {x1 : Int} {x2 : Int} {S : ZS} {Q : Option (Option ZV) → ZS → Prop} (h : zW (zb_hasLabel_p2 ZL d x1 x2 S) Q) : zW (ZL d 500 [.inl x1, .inl x2] S) Q := zW_of zte (f := zf_500) rfl h
theorem zl_narrowed_p21 {d : Nat} {x1 : Int} {x2 : Int} {x3 : Int} {x4 : Int} {x5 : Int} {x6 : Int} {S : ZS} {Q : Option (Option ZV) → ZS → Prop} (h : zW (zb_narrowed_p21 ZL d x1 x2 x3 x4 x5 x6 S) Q) : zW (ZL d 501 [.inl x1, .inl x2, .inl x3, .inl x4, .inl x5, .inl x6] S) Q := zW_of zte (f := zf_501) rfl h
theorem zl_isSameConstant_p19 {d : Nat} {x1 : Int} {x2 : Int} {x3 : Int} {S : ZS} {Q : Option (Option ZV) → ZS → Prop} (h : zW (zb_isSameConstant_p19 ZL d x1 x2 x3 S) Q) : zW (ZL d 502 [.inl x1, .inl x2, .inl x3] S) Q := zW_of zte (f := zf_502) rfl h
theorem zl_J8_min {d : Nat} {x0 : Int} {x1 : Int} {S : ZS} {Q : Option (Option ZV) → ZS → Prop} (h : zW (zb_J8_min ZL d x0 x1 S) Q) : zW (ZL d 503 [.inl x0, .inl x1] S) Q := zW_of zte (f := zf_503) rfl h
theorem zl_order0_p17 {d : Nat} {x1 : Int} {x2 : Int} {x3 : Int} {x4 : Int} {S : ZS} {Q : Option (Option ZV) → ZS → Prop} (h : zW (zb_order0_p17 ZL d x1 x2 x3 x4 S) Q) : zW (ZL d 504 [.inl x1, .inl x2, .inl x3, .inl x4] S) Q := zW_of zte (f := zf_504) rfl h
theorem zl_areAllTold_p7 {d : Nat} {x1 : Int} {x2 : Int} {S : ZS} {Q : Option (Option ZV) → ZS → Prop} (h : zW (zb_areAllTold_p7 ZL d x1 x2 S) Q) : zW (ZL d 505 [.inl x1, .inl x2] S) Q := zW_of zte (f := zf_505) rfl h
theorem zl_usefulByEach_p33 {d : Nat} {x1 : Int} {x2 : Int} {x3 : Int} {x4 : Int} {x5 : Int} {x6 : Int} {x7 : Int} {S : ZS} {Q : Option (Option ZV) → ZS → Prop} (h : zW (zb_usefulByEach_p33 ZL d x1 x2 x3 x4 x5 x6 x7 S) Q) : zW (ZL d 506 [.inl x1, .inl x2, .inl x3, .inl x4, .inl x5, .inl x6, .inl x7] S) Q := zW_of zte (f := zf_506) rfl h
theorem zl_slide_p14 {d : Nat} {x1 : Int} {x2 : Int} {x3 : Int} {S : ZS} {Q : Option (Option ZV) → ZS → Prop} (h : zW (zb_slide_p14 ZL d x1 x2 x3 S) Q) : zW (ZL d 507 [.inl x1, .inl x2, .inl x3] S) Q := zW_of zte (f := zf_507) rfl h
theorem zl_note0_p5 {d : Nat} {x1 : Int} {x2 : Int} {x3 : Int} {S : ZS} {Q : Option (Option ZV) → ZS → Prop} (h : zW (zb_note0_p5 ZL d x1 x2 x3 S) Q) : zW (ZL d 508 [.inl x1, .inl x2, .inl x3] S) Q := zW_of zte (f := zf_508) rfl h
theorem zl_runAll_p24 {d : Nat}  {S : ZS} {Q : Option (Option ZV) → ZS → Prop} (h : zW (zb_runAll_p24 ZL d  S) Q) : zW (ZL d 509 [] S) Q := zW_of zte (f := zf_509) rfl h
theorem zl_push0_p20 {d : Nat} {x2 : Int} {x3 : Int} {y0 : Int} {y1 : Int} {y2 : Int} {S : ZS} {Q : Option (Option ZV) → ZS → Prop} (h : zW (zb_push0_p20 ZL d x2 x3 y0 y1 y2 S) Q) : zW (ZL d 510 [.inl x2, .inr (.inl x3), .inl y0, .inl y1, .inl y2] S) Q := zW_of zte (f := zf_510) rfl h
theorem zl_work_p2 {d : Nat} {x2 : Int} {x3 : Int} {S : ZS} {Q : Option (Option ZV) → ZS → Prop} (h : zW (zb_work_p2 ZL d x2 x3 S) Q) : zW (ZL d 511 [.inl x2, .inl x3] S) Q := zW_of zte (f := zf_511) rfl h
theorem zl_placeIn_p2 {d : Nat} {x1 : Int} {x2 : Int} {x3 : Int} {S : ZS} {Q : Option (Option ZV) → ZS → Prop} (h : zW (zb_placeIn_p2 ZL d x1 x2 x3 S) Q) : zW (ZL d 512 [.inl x1, .inl x2, .inl x3] S) Q := zW_of zte (f := zf_512) rfl h
theorem zl_closure_p38 {d : Nat} {x1 : Int} {x2 : Int} {x3 : Int} {x4 : Int} {S : ZS} {Q : Option (Option ZV) → ZS → Prop} (h : zW (zb_closure_p38 ZL d x1 x2 x3 x4 S) Q) : zW (ZL d 513 [.inl x1, .inl x2, .inl x3, .inl x4] S) Q := zW_of zte (f := zf_513) rfl h
theorem zl_applications0_p2 {d : Nat} {x2 : Int} {x3 : Int} {S : ZS} {Q : Option (Option ZV) → ZS → Prop} (h : zW (zb_applications0_p2 ZL d x2 x3 S) Q) : zW (ZL d 514 [.inl x2, .inl x3] S) Q := zW_of zte (f := zf_514) rfl h
theorem zl_sequence_p23 {d : Nat} {x1 : Int} {x2 : Int} {S : ZS} {Q : Option (Option ZV) → ZS → Prop} (h : zW (zb_sequence_p23 ZL d x1 x2 S) Q) : zW (ZL d 515 [.inl x1, .inl x2] S) Q := zW_of zte (f := zf_515) rfl h
theorem zl_goesOn_2_p58 {d : Nat} {x1 : Int} {x2 : Int} {y0 : Int} {S : ZS} {Q : Option (Option ZV) → ZS → Prop} (h : zW (zb_goesOn_2_p58 ZL d x1 x2 y0 S) Q) : zW (ZL d 516 [.inl x1, .inl x2, .inl y0] S) Q := zW_of zte (f := zf_516) rfl h
theorem zl_choose_p3 {d : Nat} {x2 : Int} {x4 : Int} {x5 : Int} {x6 : Int} {S : ZS} {Q : Option (Option ZV) → ZS → Prop} (h : zW (zb_choose_p3 ZL d x2 x4 x5 x6 S) Q) : zW (ZL d 517 [.inr (.inl x2), .inl x4, .inl x5, .inl x6] S) Q := zW_of zte (f := zf_517) rfl h
theorem zl_matchesRow_p11 {d : Nat} {x2 : Int} {x4 : Int} {x5 : Int} {S : ZS} {Q : Option (Option ZV) → ZS → Prop} (h : zW (zb_matchesRow_p11 ZL d x2 x4 x5 S) Q) : zW (ZL d 518 [.inr (.inl x2), .inl x4, .inl x5] S) Q := zW_of zte (f := zf_518) rfl h
theorem zl_part_p10 {d : Nat} {x1 : Int} {x3 : Int} {x4 : Int} {x5 : Int} {S : ZS} {Q : Option (Option ZV) → ZS → Prop} (h : zW (zb_part_p10 ZL d x1 x3 x4 x5 S) Q) : zW (ZL d 519 [.inr (.inl x1), .inl x3, .inl x4, .inl x5] S) Q := zW_of zte (f := zf_519) rfl h
theorem zl_matchesTuple_p14 {d : Nat} {x2 : Int} {x4 : Int} {x5 : Int} {x6 : Int} {S : ZS} {Q : Option (Option ZV) → ZS → Prop} (h : zW (zb_matchesTuple_p14 ZL d x2 x4 x5 x6 S) Q) : zW (ZL d 520 [.inr (.inl x2), .inl x4, .inl x5, .inl x6] S) Q := zW_of zte (f := zf_520) rfl h
theorem zl_matchesList_p11 {d : Nat} {x4 : Int} {x6 : Int} {S : ZS} {Q : Option (Option ZV) → ZS → Prop} (h : zW (zb_matchesList_p11 ZL d x4 x6 S) Q) : zW (ZL d 521 [.inr (.inl x4), .inl x6] S) Q := zW_of zte (f := zf_521) rfl h
theorem zl_isMadeBy_p82 {d : Nat} {x1 : Int} {x2 : Int} {y0 : Int} {y1 : Int} {S : ZS} {Q : Option (Option ZV) → ZS → Prop} (h : zW (zb_isMadeBy_p82 ZL d x1 x2 y0 y1 S) Q) : zW (ZL d 522 [.inl x1, .inr (.inl x2), .inr (.inl y0), .inr (.inl y1)] S) Q := zW_of zte (f := zf_522) rfl h
theorem zl_goesOnMore_p79 {d : Nat} {x2 : Int} {x3 : Int} {x4 : Int} {x6 : Int} {S : ZS} {Q : Option (Option ZV) → ZS → Prop} (h : zW (zb_goesOnMore_p79 ZL d x2 x3 x4 x6 S) Q) : zW (ZL d 523 [.inl x2, .inl x3, .inr (.inl x4), .inr (.inl x6)] S) Q := zW_of zte (f := zf_523) rfl h
theorem zl_apply_p144 {d : Nat} {x1 : Int} {x3 : Int} {x5 : Int} {x6 : Int} {y0 : Int} {S : ZS} {Q : Option (Option ZV) → ZS → Prop} (h : zW (zb_apply_p144 ZL d x1 x3 x5 x6 y0 S) Q) : zW (ZL d 524 [.inr (.inl x1), .inr (.inl x3), .inl x5, .inl x6, .inl y0] S) Q := zW_of zte (f := zf_524) rfl h
theorem zl_firstOf_p319 {d : Nat} {x6 : Int} {x9 : Int} {S : ZS} {Q : Option (Option ZV) → ZS → Prop} (h : zW (zb_firstOf_p319 ZL d x6 x9 S) Q) : zW (ZL d 525 [.inl x6, .inl x9] S) Q := zW_of zte (f := zf_525) rfl h
theorem zl_first_p113 {d : Nat} {y0 : Int} {y1 : Int} {S : ZS} {Q : Option (Option ZV) → ZS → Prop} (h : zW (zb_first_p113 ZL d y0 y1 S) Q) : zW (ZL d 526 [.inl y0, .inl y1] S) Q := zW_of zte (f := zf_526) rfl h
theorem zl_first_p302 {d : Nat} {x1 : Int} {x6 : Int} {x8 : Int} {x11 : Int} {S : ZS} {Q : Option (Option ZV) → ZS → Prop} (h : zW (zb_first_p302 ZL d x1 x6 x8 x11 S) Q) : zW (ZL d 527 [.inl x1, .inr (.inl x6), .inr (.inl x8), .inr (.inl x11)] S) Q := zW_of zte (f := zf_527) rfl h
theorem zl_first_p281 {d : Nat} {x1 : Int} {x6 : Int} {x8 : Int} {x11 : Int} {y0 : Int} {S : ZS} {Q : Option (Option ZV) → ZS → Prop} (h : zW (zb_first_p281 ZL d x1 x6 x8 x11 y0 S) Q) : zW (ZL d 528 [.inl x1, .inr (.inl x6), .inr (.inl x8), .inr (.inl x11), .inl y0] S) Q := zW_of zte (f := zf_528) rfl h
theorem zl_areEqual_p9 {d : Nat} {x5 : Int} {x6 : Int} {x8 : Int} {S : ZS} {Q : Option (Option ZV) → ZS → Prop} (h : zW (zb_areEqual_p9 ZL d x5 x6 x8 S) Q) : zW (ZL d 529 [.inl x5, .inr (.inl x6), .inr (.inl x8)] S) Q := zW_of zte (f := zf_529) rfl h
theorem zl_J19_compare {d : Nat} {x0 : Int} {x1 : Int} {S : ZS} {Q : Option (Option ZV) → ZS → Prop} (h : zW (zb_J19_compare ZL d x0 x1 S) Q) : zW (ZL d 530 [.inl x0, .inl x1] S) Q := zW_of zte (f := zf_530) rfl h
theorem zl_joinedStrings_p69 {d : Nat} {x5 : Int} {x6 : Int} {x8 : Int} {x10 : Int} {S : ZS} {Q : Option (Option ZV) → ZS → Prop} (h : zW (zb_joinedStrings_p69 ZL d x5 x6 x8 x10 S) Q) : zW (ZL d 531 [.inl x5, .inl x6, .inr (.inl x8), .inl x10] S) Q := zW_of zte (f := zf_531) rfl h
theorem zl_substringOf_p55 {d : Nat} {x1 : Int} {x2 : Int} {x3 : Int} {x4 : Int} {x6 : Int} {S : ZS} {Q : Option (Option ZV) → ZS → Prop} (h : zW (zb_substringOf_p55 ZL d x1 x2 x3 x4 x6 S) Q) : zW (ZL d 532 [.inl x1, .inl x2, .inl x3, .inr (.inl x4), .inl x6] S) Q := zW_of zte (f := zf_532) rfl h
theorem zl_exploded_p21 {d : Nat} {x1 : Int} {x2 : Int} {x4 : Int} {S : ZS} {Q : Option (Option ZV) → ZS → Prop} (h : zW (zb_exploded_p21 ZL d x1 x2 x4 S) Q) : zW (ZL d 533 [.inl x1, .inr (.inl x2), .inl x4] S) Q := zW_of zte (f := zf_533) rfl h
theorem zl_tuple_p41 {d : Nat} {x1 : Int} {x2 : Int} {S : ZS} {Q : Option (Option ZV) → ZS → Prop} (h : zW (zb_tuple_p41 ZL d x1 x2 S) Q) : zW (ZL d 534 [.inl x1, .inl x2] S) Q := zW_of zte (f := zf_534) rfl h
theorem zl_imploded_p5 {d : Nat} {x1 : Int} {x3 : Int} {x4 : Int} {S : ZS} {Q : Option (Option ZV) → ZS → Prop} (h : zW (zb_imploded_p5 ZL d x1 x3 x4 S) Q) : zW (ZL d 535 [.inr (.inl x1), .inl x3, .inr (.inl x4)] S) Q := zW_of zte (f := zf_535) rfl h
theorem zl_digitsOf_p12 {d : Nat} {x1 : Int} {y0 : Int} {S : ZS} {Q : Option (Option ZV) → ZS → Prop} (h : zW (zb_digitsOf_p12 ZL d x1 y0 S) Q) : zW (ZL d 536 [.inr (.inl x1), .inr (.inl y0)] S) Q := zW_of zte (f := zf_536) rfl h
theorem zl_putOut_p20 {d : Nat}  {S : ZS} {Q : Option (Option ZV) → ZS → Prop} (h : zW (zb_putOut_p20 ZL d  S) Q) : zW (ZL d 537 [] S) Q := zW_of zte (f := zf_537) rfl h
theorem zl_partial_p52 {d : Nat} {x1 : Int} {x3 : Int} {x5 : Int} {x6 : Int} {x7 : Int} {S : ZS} {Q : Option (Option ZV) → ZS → Prop} (h : zW (zb_partial_p52 ZL d x1 x3 x5 x6 x7 S) Q) : zW (ZL d 538 [.inr (.inl x1), .inr (.inl x3), .inl x5, .inl x6, .inl x7] S) Q := zW_of zte (f := zf_538) rfl h
theorem zl_J8_max {d : Nat} {x0 : Int} {x1 : Int} {S : ZS} {Q : Option (Option ZV) → ZS → Prop} (h : zW (zb_J8_max ZL d x0 x1 S) Q) : zW (ZL d 539 [.inl x0, .inl x1] S) Q := zW_of zte (f := zf_539) rfl h
theorem zl_call_p115 {d : Nat} {x1 : Int} {x3 : Int} {x5 : Int} {S : ZS} {Q : Option (Option ZV) → ZS → Prop} (h : zW (zb_call_p115 ZL d x1 x3 x5 S) Q) : zW (ZL d 540 [.inr (.inl x1), .inr (.inl x3), .inl x5] S) Q := zW_of zte (f := zf_540) rfl h
theorem zl_body_p50 {d : Nat} {x2 : Int} {S : ZS} {Q : Option (Option ZV) → ZS → Prop} (h : zW (zb_body_p50 ZL d x2 S) Q) : zW (ZL d 541 [.inl x2] S) Q := zW_of zte (f := zf_541) rfl h
theorem zl_rec_p7 {d : Nat} {x1 : Int} {x2 : Int} {S : ZS} {Q : Option (Option ZV) → ZS → Prop} (h : zW (zb_rec_p7 ZL d x1 x2 S) Q) : zW (ZL d 542 [.inl x1, .inl x2] S) Q := zW_of zte (f := zf_542) rfl h
theorem zl_nameIn_p2 {d : Nat} {x2 : Int} {S : ZS} {Q : Option (Option ZV) → ZS → Prop} (h : zW (zb_nameIn_p2 ZL d x2 S) Q) : zW (ZL d 543 [.inl x2] S) Q := zW_of zte (f := zf_543) rfl h
theorem zl_tie_p3 {d : Nat} {x1 : Int} {x2 : Int} {x4 : Int} {S : ZS} {Q : Option (Option ZV) → ZS → Prop} (h : zW (zb_tie_p3 ZL d x1 x2 x4 S) Q) : zW (ZL d 544 [.inl x1, .inr (.inl x2), .inl x4] S) Q := zW_of zte (f := zf_544) rfl h
theorem zl_fun_p7 {d : Nat} {x1 : Int} {x2 : Int} {S : ZS} {Q : Option (Option ZV) → ZS → Prop} (h : zW (zb_fun_p7 ZL d x1 x2 S) Q) : zW (ZL d 545 [.inl x1, .inl x2] S) Q := zW_of zte (f := zf_545) rfl h
theorem zl_oneMore_p68 {d : Nat} {x1 : Int} {x2 : Int} {x7 : Int} {x8 : Int} {S : ZS} {Q : Option (Option ZV) → ZS → Prop} (h : zW (zb_oneMore_p68 ZL d x1 x2 x7 x8 S) Q) : zW (ZL d 546 [.inl x1, .inl x2, .inl x7, .inl x8] S) Q := zW_of zte (f := zf_546) rfl h
theorem zl_listOf_p17 {d : Nat} {x2 : Int} {x4 : Int} {S : ZS} {Q : Option (Option ZV) → ZS → Prop} (h : zW (zb_listOf_p17 ZL d x2 x4 S) Q) : zW (ZL d 547 [.inr (.inl x2), .inl x4] S) Q := zW_of zte (f := zf_547) rfl h
theorem zl_rowOf_p46 {d : Nat} {x1 : Int} {x3 : Int} {x4 : Int} {y0 : Int} {y1 : Int} {S : ZS} {Q : Option (Option ZV) → ZS → Prop} (h : zW (zb_rowOf_p46 ZL d x1 x3 x4 y0 y1 S) Q) : zW (ZL d 548 [.inl x1, .inl x3, .inl x4, .inr (.inl y0), .inl y1] S) Q := zW_of zte (f := zf_548) rfl h
theorem zl_shapeOf_p38 {d : Nat} {x1 : Int} {x2 : Int} {x3 : Int} {S : ZS} {Q : Option (Option ZV) → ZS → Prop} (h : zW (zb_shapeOf_p38 ZL d x1 x2 x3 S) Q) : zW (ZL d 549 [.inl x1, .inl x2, .inl x3] S) Q := zW_of zte (f := zf_549) rfl h
theorem zl_isAhead_p8 {d : Nat} {x1 : Int} {x2 : Int} {S : ZS} {Q : Option (Option ZV) → ZS → Prop} (h : zW (zb_isAhead_p8 ZL d x1 x2 S) Q) : zW (ZL d 550 [.inl x1, .inl x2] S) Q := zW_of zte (f := zf_550) rfl h
theorem zl_isAhead_p46 {d : Nat} {x1 : Int} {x2 : Int} {x3 : Int} {x4 : Int} {S : ZS} {Q : Option (Option ZV) → ZS → Prop} (h : zW (zb_isAhead_p46 ZL d x1 x2 x3 x4 S) Q) : zW (ZL d 551 [.inl x1, .inl x2, .inl x3, .inl x4] S) Q := zW_of zte (f := zf_551) rfl h
theorem zl_likeShape_p2 {d : Nat} {x1 : Int} {x2 : Int} {S : ZS} {Q : Option (Option ZV) → ZS → Prop} (h : zW (zb_likeShape_p2 ZL d x1 x2 S) Q) : zW (ZL d 552 [.inl x1, .inl x2] S) Q := zW_of zte (f := zf_552) rfl h
theorem zl_unwind_p48 {d : Nat} {x1 : Int} {S : ZS} {Q : Option (Option ZV) → ZS → Prop} (h : zW (zb_unwind_p48 ZL d x1 S) Q) : zW (ZL d 553 [.inl x1] S) Q := zW_of zte (f := zf_553) rfl h
theorem zl_keepBound_p22 {d : Nat} {x1 : Int} {x2 : Int} {x3 : Int} {S : ZS} {Q : Option (Option ZV) → ZS → Prop} (h : zW (zb_keepBound_p22 ZL d x1 x2 x3 S) Q) : zW (ZL d 554 [.inl x1, .inl x2, .inl x3] S) Q := zW_of zte (f := zf_554) rfl h
theorem zl_keepInfix_p7 {d : Nat} {x1 : Int} {x2 : Int} {S : ZS} {Q : Option (Option ZV) → ZS → Prop} (h : zW (zb_keepInfix_p7 ZL d x1 x2 S) Q) : zW (ZL d 555 [.inl x1, .inl x2] S) Q := zW_of zte (f := zf_555) rfl h
theorem zl_keepTypes_p7 {d : Nat} {x1 : Int} {x2 : Int} {S : ZS} {Q : Option (Option ZV) → ZS → Prop} (h : zW (zb_keepTypes_p7 ZL d x1 x2 S) Q) : zW (ZL d 556 [.inl x1, .inl x2] S) Q := zW_of zte (f := zf_556) rfl h
theorem zl_endOf_p32 {d : Nat} {x2 : Int} {x3 : Int} {y0 : Int} {S : ZS} {Q : Option (Option ZV) → ZS → Prop} (h : zW (zb_endOf_p32 ZL d x2 x3 y0 S) Q) : zW (ZL d 557 [.inl x2, .inl x3, .inl y0] S) Q := zW_of zte (f := zf_557) rfl h
theorem zl_noteLines_p10 {d : Nat} {x1 : Int} {S : ZS} {Q : Option (Option ZV) → ZS → Prop} (h : zW (zb_noteLines_p10 ZL d x1 S) Q) : zW (ZL d 558 [.inl x1] S) Q := zW_of zte (f := zf_558) rfl h
theorem zl_sayValue_p149 {d : Nat} {x4 : Int} {x5 : Int} {S : ZS} {Q : Option (Option ZV) → ZS → Prop} (h : zW (zb_sayValue_p149 ZL d x4 x5 S) Q) : zW (ZL d 560 [.inl x4, .inl x5] S) Q := zW_of zte (f := zf_560) rfl h
theorem zl_sayInt_p12 {d : Nat} {x1 : Int} {y0 : Int} {S : ZS} {Q : Option (Option ZV) → ZS → Prop} (h : zW (zb_sayInt_p12 ZL d x1 y0 S) Q) : zW (ZL d 561 [.inr (.inl x1), .inr (.inl y0)] S) Q := zW_of zte (f := zf_561) rfl h
theorem zl_sayByte_p44 {d : Nat} {x1 : Int} {S : ZS} {Q : Option (Option ZV) → ZS → Prop} (h : zW (zb_sayByte_p44 ZL d x1 S) Q) : zW (ZL d 562 [.inl x1] S) Q := zW_of zte (f := zf_562) rfl h
theorem zl_sayByte_p70 {d : Nat} {x1 : Int} {S : ZS} {Q : Option (Option ZV) → ZS → Prop} (h : zW (zb_sayByte_p70 ZL d x1 S) Q) : zW (ZL d 563 [.inl x1] S) Q := zW_of zte (f := zf_563) rfl h
theorem zl_sayName_p2 {d : Nat} {x1 : Int} {x2 : Int} {S : ZS} {Q : Option (Option ZV) → ZS → Prop} (h : zW (zb_sayName_p2 ZL d x1 x2 S) Q) : zW (ZL d 564 [.inl x1, .inl x2] S) Q := zW_of zte (f := zf_564) rfl h
theorem zl_sayRow_p23 {d : Nat} {x1 : Int} {x3 : Int} {x4 : Int} {x5 : Int} {x6 : Int} {S : ZS} {Q : Option (Option ZV) → ZS → Prop} (h : zW (zb_sayRow_p23 ZL d x1 x3 x4 x5 x6 S) Q) : zW (ZL d 565 [.inr (.inl x1), .inl x3, .inl x4, .inl x5, .inl x6] S) Q := zW_of zte (f := zf_565) rfl h
theorem zl_sayBehind_p19 {d : Nat} {x1 : Int} {x3 : Int} {y0 : Int} {S : ZS} {Q : Option (Option ZV) → ZS → Prop} (h : zW (zb_sayBehind_p19 ZL d x1 x3 y0 S) Q) : zW (ZL d 566 [.inr (.inl x1), .inl x3, .inl y0] S) Q := zW_of zte (f := zf_566) rfl h
theorem zl_isApplied_p25 {d : Nat} {x3 : Int} {S : ZS} {Q : Option (Option ZV) → ZS → Prop} (h : zW (zb_isApplied_p25 ZL d x3 S) Q) : zW (ZL d 567 [.inr (.inl x3)] S) Q := zW_of zte (f := zf_567) rfl h
theorem zl_sayMade_p61 {d : Nat} {x3 : Int} {x5 : Int} {x6 : Int} {S : ZS} {Q : Option (Option ZV) → ZS → Prop} (h : zW (zb_sayMade_p61 ZL d x3 x5 x6 S) Q) : zW (ZL d 568 [.inl x3, .inl x5, .inr (.inl x6)] S) Q := zW_of zte (f := zf_568) rfl h
theorem zl_sayType_p57 {d : Nat} {x2 : Int} {x3 : Int} {y0 : Int} {S : ZS} {Q : Option (Option ZV) → ZS → Prop} (h : zW (zb_sayType_p57 ZL d x2 x3 y0 S) Q) : zW (ZL d 569 [.inl x2, .inl x3, .inl y0] S) Q := zW_of zte (f := zf_569) rfl h
theorem zl_sayVariable_p2 {d : Nat} {x1 : Int} {x2 : Int} {S : ZS} {Q : Option (Option ZV) → ZS → Prop} (h : zW (zb_sayVariable_p2 ZL d x1 x2 S) Q) : zW (ZL d 570 [.inl x1, .inl x2] S) Q := zW_of zte (f := zf_570) rfl h
theorem zl_isTuple_p9 {d : Nat} {x1 : Int} {x2 : Int} {x3 : Int} {S : ZS} {Q : Option (Option ZV) → ZS → Prop} (h : zW (zb_isTuple_p9 ZL d x1 x2 x3 S) Q) : zW (ZL d 571 [.inl x1, .inl x2, .inl x3] S) Q := zW_of zte (f := zf_571) rfl h
theorem zl_sayRowType_p31 {d : Nat} {x1 : Int} {x2 : Int} {x3 : Int} {x4 : Int} {S : ZS} {Q : Option (Option ZV) → ZS → Prop} (h : zW (zb_sayRowType_p31 ZL d x1 x2 x3 x4 S) Q) : zW (ZL d 572 [.inl x1, .inl x2, .inl x3, .inl x4] S) Q := zW_of zte (f := zf_572) rfl h
theorem zl_sayMadeType_p42 {d : Nat} {x1 : Int} {x2 : Int} {S : ZS} {Q : Option (Option ZV) → ZS → Prop} (h : zW (zb_sayMadeType_p42 ZL d x1 x2 S) Q) : zW (ZL d 573 [.inl x1, .inl x2] S) Q := zW_of zte (f := zf_573) rfl h
theorem zl_sayMadeType_p99 {d : Nat} {x1 : Int} {S : ZS} {Q : Option (Option ZV) → ZS → Prop} (h : zW (zb_sayMadeType_p99 ZL d x1 S) Q) : zW (ZL d 574 [.inl x1] S) Q := zW_of zte (f := zf_574) rfl h
theorem zl_tellType_p49 {d : Nat} {x2 : Int} {x4 : Int} {S : ZS} {Q : Option (Option ZV) → ZS → Prop} (h : zW (zb_tellType_p49 ZL d x2 x4 S) Q) : zW (ZL d 575 [.inl x2, .inl x4] S) Q := zW_of zte (f := zf_575) rfl h
theorem zl_sayVars_p26 {d : Nat} {x1 : Int} {y0 : Int} {S : ZS} {Q : Option (Option ZV) → ZS → Prop} (h : zW (zb_sayVars_p26 ZL d x1 y0 S) Q) : zW (ZL d 576 [.inl x1, .inl y0] S) Q := zW_of zte (f := zf_576) rfl h
theorem zl_tellData_p48 {d : Nat} {x2 : Int} {x3 : Int} {S : ZS} {Q : Option (Option ZV) → ZS → Prop} (h : zW (zb_tellData_p48 ZL d x2 x3 S) Q) : zW (ZL d 577 [.inl x2, .inl x3] S) Q := zW_of zte (f := zf_577) rfl h
theorem zl_listed0_p7 {d : Nat} {x2 : Int} {S : ZS} {Q : Option (Option ZV) → ZS → Prop} (h : zW (zb_listed0_p7 ZL d x2 S) Q) : zW (ZL d 578 [.inl x2] S) Q := zW_of zte (f := zf_578) rfl h
theorem zl_letter_p34 {d : Nat} {x1 : Int} {x2 : Int} {S : ZS} {Q : Option (Option ZV) → ZS → Prop} (h : zW (zb_letter_p34 ZL d x1 x2 S) Q) : zW (ZL d 579 [.inl x1, .inl x2] S) Q := zW_of zte (f := zf_579) rfl h
theorem zl_feed_p76 {d : Nat} {x1 : Int} {x2 : Int} {x3 : Int} {x4 : Int} {x5 : Int} {x6 : Int} {y0 : Int} {S : ZS} {Q : Option (Option ZV) → ZS → Prop} (h : zW (zb_feed_p76 ZL d x1 x2 x3 x4 x5 x6 y0 S) Q) : zW (ZL d 580 [.inl x1, .inl x2, .inl x3, .inl x4, .inl x5, .inl x6, .inl y0] S) Q := zW_of zte (f := zf_580) rfl h
theorem zl_sign0_p151 {d : Nat} {x4 : Int} {S : ZS} {Q : Option (Option ZV) → ZS → Prop} (h : zW (zb_sign0_p151 ZL d x4 S) Q) : zW (ZL d 581 [.inl x4] S) Q := zW_of zte (f := zf_581) rfl h
theorem zl_sign0_p235 {d : Nat} {x2 : Int} {x3 : Int} {S : ZS} {Q : Option (Option ZV) → ZS → Prop} (h : zW (zb_sign0_p235 ZL d x2 x3 S) Q) : zW (ZL d 582 [.inl x2, .inl x3] S) Q := zW_of zte (f := zf_582) rfl h
theorem zl_find_p24 {d : Nat} {x2 : Int} {x3 : Int} {S : ZS} {Q : Option (Option ZV) → ZS → Prop} (h : zW (zb_find_p24 ZL d x2 x3 S) Q) : zW (ZL d 583 [.inl x2, .inl x3] S) Q := zW_of zte (f := zf_583) rfl h
theorem zl_withField_p65 {d : Nat} {x1 : Int} {x2 : Int} {x3 : Int} {x4 : Int} {S : ZS} {Q : Option (Option ZV) → ZS → Prop} (h : zW (zb_withField_p65 ZL d x1 x2 x3 x4 S) Q) : zW (ZL d 584 [.inl x1, .inl x2, .inl x3, .inl x4] S) Q := zW_of zte (f := zf_584) rfl h
theorem zl_read_p161 {d : Nat} {x1 : Int} {S : ZS} {Q : Option (Option ZV) → ZS → Prop} (h : zW (zb_read_p161 ZL d x1 S) Q) : zW (ZL d 585 [.inl x1] S) Q := zW_of zte (f := zf_585) rfl h
theorem zl_gaps_p113 {d : Nat} {x1 : Int} {x2 : Int} {x3 : Int} {S : ZS} {Q : Option (Option ZV) → ZS → Prop} (h : zW (zb_gaps_p113 ZL d x1 x2 x3 S) Q) : zW (ZL d 586 [.inl x1, .inl x2, .inl x3] S) Q := zW_of zte (f := zf_586) rfl h
theorem zl_nameAt_text_p6 {d : Nat} {x2 : Int} {x3 : Int} {x4 : Int} {x5 : Int} {S : ZS} {Q : Option (Option ZV) → ZS → Prop} (h : zW (zb_nameAt_text_p6 ZL d x2 x3 x4 x5 S) Q) : zW (ZL d 587 [.inl x2, .inl x3, .inl x4, .inl x5] S) Q := zW_of zte (f := zf_587) rfl h
theorem zl_readVariable_p49 {d : Nat}  {S : ZS} {Q : Option (Option ZV) → ZS → Prop} (h : zW (zb_readVariable_p49 ZL d  S) Q) : zW (ZL d 588 [] S) Q := zW_of zte (f := zf_588) rfl h
theorem zl_readInt_p31 {d : Nat} {x1 : Int} {x2 : Int} {S : ZS} {Q : Option (Option ZV) → ZS → Prop} (h : zW (zb_readInt_p31 ZL d x1 x2 S) Q) : zW (ZL d 589 [.inl x1, .inr (.inl x2)] S) Q := zW_of zte (f := zf_589) rfl h
theorem zl_readString_p31 {d : Nat} {x1 : Int} {S : ZS} {Q : Option (Option ZV) → ZS → Prop} (h : zW (zb_readString_p31 ZL d x1 S) Q) : zW (ZL d 590 [.inl x1] S) Q := zW_of zte (f := zf_590) rfl h
theorem zl_readEscape_p53 {d : Nat} {y0 : Int} {S : ZS} {Q : Option (Option ZV) → ZS → Prop} (h : zW (zb_readEscape_p53 ZL d y0 S) Q) : zW (ZL d 591 [.inl y0] S) Q := zW_of zte (f := zf_591) rfl h
theorem zl_readEscape_p97 {d : Nat} {x2 : Int} {x3 : Int} {y0 : Int} {S : ZS} {Q : Option (Option ZV) → ZS → Prop} (h : zW (zb_readEscape_p97 ZL d x2 x3 y0 S) Q) : zW (ZL d 592 [.inl x2, .inl x3, .inl y0] S) Q := zW_of zte (f := zf_592) rfl h
theorem zl_decs_p57 {d : Nat} {x1 : Int} {x2 : Int} {x3 : Int} {x4 : Int} {S : ZS} {Q : Option (Option ZV) → ZS → Prop} (h : zW (zb_decs_p57 ZL d x1 x2 x3 x4 S) Q) : zW (ZL d 593 [.inl x1, .inl x2, .inl x3, .inl x4] S) Q := zW_of zte (f := zf_593) rfl h
theorem zl_local_p48 {d : Nat} {x1 : Int} {x2 : Int} {x3 : Int} {y0 : Int} {S : ZS} {Q : Option (Option ZV) → ZS → Prop} (h : zW (zb_local_p48 ZL d x1 x2 x3 y0 S) Q) : zW (ZL d 594 [.inl x1, .inl x2, .inl x3, .inl y0] S) Q := zW_of zte (f := zf_594) rfl h
theorem zl_binds_p73 {d : Nat} {x1 : Int} {x6 : Int} {S : ZS} {Q : Option (Option ZV) → ZS → Prop} (h : zW (zb_binds_p73 ZL d x1 x6 S) Q) : zW (ZL d 595 [.inl x1, .inl x6] S) Q := zW_of zte (f := zf_595) rfl h
theorem zl_pattern_p28 {d : Nat} {x1 : Int} {x2 : Int} {x3 : Int} {x4 : Int} {x5 : Int} {S : ZS} {Q : Option (Option ZV) → ZS → Prop} (h : zW (zb_pattern_p28 ZL d x1 x2 x3 x4 x5 S) Q) : zW (ZL d 596 [.inl x1, .inl x2, .inl x3, .inl x4, .inl x5] S) Q := zW_of zte (f := zf_596) rfl h
theorem zl_infixed_p239 {d : Nat} {x1 : Int} {x2 : Int} {S : ZS} {Q : Option (Option ZV) → ZS → Prop} (h : zW (zb_infixed_p239 ZL d x1 x2 S) Q) : zW (ZL d 597 [.inl x1, .inl x2] S) Q := zW_of zte (f := zf_597) rfl h
theorem zl_infixed_p30 {d : Nat} {x1 : Int} {x2 : Int} {S : ZS} {Q : Option (Option ZV) → ZS → Prop} (h : zW (zb_infixed_p30 ZL d x1 x2 S) Q) : zW (ZL d 598 [.inl x1, .inl x2] S) Q := zW_of zte (f := zf_598) rfl h
theorem zl_patternRow_p87 {d : Nat} {x1 : Int} {x2 : Int} {x5 : Int} {S : ZS} {Q : Option (Option ZV) → ZS → Prop} (h : zW (zb_patternRow_p87 ZL d x1 x2 x5 S) Q) : zW (ZL d 599 [.inl x1, .inl x2, .inl x5] S) Q := zW_of zte (f := zf_599) rfl h
theorem zl_patternRow_p73 {d : Nat} {x1 : Int} {x2 : Int} {x5 : Int} {x6 : Int} {S : ZS} {Q : Option (Option ZV) → ZS → Prop} (h : zW (zb_patternRow_p73 ZL d x1 x2 x5 x6 S) Q) : zW (ZL d 600 [.inl x1, .inl x2, .inl x5, .inl x6] S) Q := zW_of zte (f := zf_600) rfl h
theorem zl_patternField_p75 {d : Nat} {x1 : Int} {x3 : Int} {x4 : Int} {S : ZS} {Q : Option (Option ZV) → ZS → Prop} (h : zW (zb_patternField_p75 ZL d x1 x3 x4 S) Q) : zW (ZL d 601 [.inl x1, .inl x3, .inl x4] S) Q := zW_of zte (f := zf_601) rfl h
theorem zl_tupleType_p131 {d : Nat} {x1 : Int} {x2 : Int} {S : ZS} {Q : Option (Option ZV) → ZS → Prop} (h : zW (zb_tupleType_p131 ZL d x1 x2 S) Q) : zW (ZL d 602 [.inl x1, .inl x2] S) Q := zW_of zte (f := zf_602) rfl h
theorem zl_atomicType_p117 {d : Nat} {x1 : Int} {x2 : Int} {x3 : Int} {x4 : Int} {S : ZS} {Q : Option (Option ZV) → ZS → Prop} (h : zW (zb_atomicType_p117 ZL d x1 x2 x3 x4 S) Q) : zW (ZL d 603 [.inl x1, .inl x2, .inl x3, .inl x4] S) Q := zW_of zte (f := zf_603) rfl h
theorem zl_typeRow_p80 {d : Nat} {x1 : Int} {x2 : Int} {x7 : Int} {S : ZS} {Q : Option (Option ZV) → ZS → Prop} (h : zW (zb_typeRow_p80 ZL d x1 x2 x7 S) Q) : zW (ZL d 604 [.inl x1, .inl x2, .inl x7] S) Q := zW_of zte (f := zf_604) rfl h
theorem zl_patternHeld_p40 {d : Nat} {x1 : Int} {x2 : Int} {x3 : Int} {x4 : Int} {x5 : Int} {x6 : Int} {x7 : Int} {S : ZS} {Q : Option (Option ZV) → ZS → Prop} (h : zW (zb_patternHeld_p40 ZL d x1 x2 x3 x4 x5 x6 x7 S) Q) : zW (ZL d 605 [.inl x1, .inl x2, .inl x3, .inl x4, .inl x5, .inl x6, .inl x7] S) Q := zW_of zte (f := zf_605) rfl h
theorem zl_expressionRow_p84 {d : Nat} {x1 : Int} {x2 : Int} {x7 : Int} {S : ZS} {Q : Option (Option ZV) → ZS → Prop} (h : zW (zb_expressionRow_p84 ZL d x1 x2 x7 S) Q) : zW (ZL d 606 [.inl x1, .inl x2, .inl x7] S) Q := zW_of zte (f := zf_606) rfl h
theorem zl_orelse_p36 {d : Nat} {x1 : Int} {y0 : Int} {S : ZS} {Q : Option (Option ZV) → ZS → Prop} (h : zW (zb_orelse_p36 ZL d x1 y0 S) Q) : zW (ZL d 607 [.inl x1, .inl y0] S) Q := zW_of zte (f := zf_607) rfl h
theorem zl_andalso_p35 {d : Nat} {x1 : Int} {y0 : Int} {S : ZS} {Q : Option (Option ZV) → ZS → Prop} (h : zW (zb_andalso_p35 ZL d x1 y0 S) Q) : zW (ZL d 608 [.inl x1, .inl y0] S) Q := zW_of zte (f := zf_608) rfl h
theorem zl_functions_p66 {d : Nat} {x1 : Int} {x5 : Int} {S : ZS} {Q : Option (Option ZV) → ZS → Prop} (h : zW (zb_functions_p66 ZL d x1 x5 S) Q) : zW (ZL d 609 [.inl x1, .inl x5] S) Q := zW_of zte (f := zf_609) rfl h
theorem zl_clause_p67 {d : Nat} {x1 : Int} {y0 : Int} {S : ZS} {Q : Option (Option ZV) → ZS → Prop} (h : zW (zb_clause_p67 ZL d x1 y0 S) Q) : zW (ZL d 610 [.inl x1, .inl y0] S) Q := zW_of zte (f := zf_610) rfl h
theorem zl_datas_p73 {d : Nat} {x1 : Int} {x7 : Int} {S : ZS} {Q : Option (Option ZV) → ZS → Prop} (h : zW (zb_datas_p73 ZL d x1 x7 S) Q) : zW (ZL d 611 [.inl x1, .inl x7] S) Q := zW_of zte (f := zf_611) rfl h
theorem zl_constructors_p40 {d : Nat} {x1 : Int} {x2 : Int} {x5 : Int} {y0 : Int} {S : ZS} {Q : Option (Option ZV) → ZS → Prop} (h : zW (zb_constructors_p40 ZL d x1 x2 x5 y0 S) Q) : zW (ZL d 612 [.inl x1, .inl x2, .inl x5, .inl y0] S) Q := zW_of zte (f := zf_612) rfl h
theorem zl_exception_p68 {d : Nat} {x1 : Int} {x3 : Int} {x4 : Int} {x6 : Int} {y0 : Int} {S : ZS} {Q : Option (Option ZV) → ZS → Prop} (h : zW (zb_exception_p68 ZL d x1 x3 x4 x6 y0 S) Q) : zW (ZL d 613 [.inl x1, .inl x3, .inl x4, .inl x6, .inl y0] S) Q := zW_of zte (f := zf_613) rfl h
theorem zl_infixes_p63 {d : Nat} {x1 : Int} {x2 : Int} {x3 : Int} {S : ZS} {Q : Option (Option ZV) → ZS → Prop} (h : zW (zb_infixes_p63 ZL d x1 x2 x3 S) Q) : zW (ZL d 614 [.inl x1, .inl x2, .inl x3] S) Q := zW_of zte (f := zf_614) rfl h
theorem zl_judgedVal_p115 {d : Nat} {x2 : Int} {x3 : Int} {x4 : Int} {x5 : Int} {x6 : Int} {x10 : Int} {S : ZS} {Q : Option (Option ZV) → ZS → Prop} (h : zW (zb_judgedVal_p115 ZL d x2 x3 x4 x5 x6 x10 S) Q) : zW (ZL d 615 [.inl x2, .inl x3, .inl x4, .inl x5, .inl x6, .inl x10] S) Q := zW_of zte (f := zf_615) rfl h
theorem zl_enterVariables_p37 {d : Nat} {x2 : Int} {x3 : Int} {x4 : Int} {x5 : Int} {S : ZS} {Q : Option (Option ZV) → ZS → Prop} (h : zW (zb_enterVariables_p37 ZL d x2 x3 x4 x5 S) Q) : zW (ZL d 616 [.inl x2, .inl x3, .inl x4, .inl x5] S) Q := zW_of zte (f := zf_616) rfl h
theorem zl_look_p48 {d : Nat} {x2 : Int} {x3 : Int} {S : ZS} {Q : Option (Option ZV) → ZS → Prop} (h : zW (zb_look_p48 ZL d x2 x3 S) Q) : zW (ZL d 617 [.inl x2, .inl x3] S) Q := zW_of zte (f := zf_617) rfl h
theorem zl_found_p31 {d : Nat} {x1 : Int} {x2 : Int} {x3 : Int} {S : ZS} {Q : Option (Option ZV) → ZS → Prop} (h : zW (zb_found_p31 ZL d x1 x2 x3 S) Q) : zW (ZL d 618 [.inl x1, .inl x2, .inl x3] S) Q := zW_of zte (f := zf_618) rfl h
theorem zl_patternName_p81 {d : Nat} {x1 : Int} {x2 : Int} {x3 : Int} {x4 : Int} {S : ZS} {Q : Option (Option ZV) → ZS → Prop} (h : zW (zb_patternName_p81 ZL d x1 x2 x3 x4 S) Q) : zW (ZL d 619 [.inl x1, .inl x2, .inl x3, .inl x4] S) Q := zW_of zte (f := zf_619) rfl h
theorem zl_patternName_p68 {d : Nat} {x1 : Int} {S : ZS} {Q : Option (Option ZV) → ZS → Prop} (h : zW (zb_patternName_p68 ZL d x1 S) Q) : zW (ZL d 620 [.inl x1] S) Q := zW_of zte (f := zf_620) rfl h
theorem zl_readSign_p109 {d : Nat} {x3 : Int} {y0 : Int} {y1 : Int} {y2 : Int} {y3 : Int} {y4 : Int} {y6 : Int} {S : ZS} {Q : Option (Option ZV) → ZS → Prop} (h : zW (zb_readSign_p109 ZL d x3 y0 y1 y2 y3 y4 y6 S) Q) : zW (ZL d 621 [.inl x3, .inl y0, .inl y1, .inl y2, .inl y3, .inl y4, .inl y6] S) Q := zW_of zte (f := zf_621) rfl h
theorem zl_readSign_p153 {d : Nat} {x1 : Int} {x2 : Int} {x3 : Int} {y0 : Int} {S : ZS} {Q : Option (Option ZV) → ZS → Prop} (h : zW (zb_readSign_p153 ZL d x1 x2 x3 y0 S) Q) : zW (ZL d 622 [.inl x1, .inl x2, .inl x3, .inl y0] S) Q := zW_of zte (f := zf_622) rfl h
theorem zl_copied_p62 {d : Nat} {x1 : Int} {x2 : Int} {S : ZS} {Q : Option (Option ZV) → ZS → Prop} (h : zW (zb_copied_p62 ZL d x1 x2 S) Q) : zW (ZL d 623 [.inl x1, .inl x2] S) Q := zW_of zte (f := zf_623) rfl h
theorem zl_copied_p51 {d : Nat} {x1 : Int} {x3 : Int} {y0 : Int} {S : ZS} {Q : Option (Option ZV) → ZS → Prop} (h : zW (zb_copied_p51 ZL d x1 x3 y0 S) Q) : zW (ZL d 624 [.inl x1, .inl x3, .inl y0] S) Q := zW_of zte (f := zf_624) rfl h
theorem zl_joined_p73 {d : Nat} {x1 : Int} {x3 : Int} {S : ZS} {Q : Option (Option ZV) → ZS → Prop} (h : zW (zb_joined_p73 ZL d x1 x3 S) Q) : zW (ZL d 625 [.inl x1, .inl x3] S) Q := zW_of zte (f := zf_625) rfl h
theorem zl_merge_p69 {d : Nat} {x1 : Int} {x2 : Int} {S : ZS} {Q : Option (Option ZV) → ZS → Prop} (h : zW (zb_merge_p69 ZL d x1 x2 S) Q) : zW (ZL d 626 [.inl x1, .inl x2] S) Q := zW_of zte (f := zf_626) rfl h
theorem zl_mergeRows_p45 {d : Nat} {x1 : Int} {x2 : Int} {x3 : Int} {x4 : Int} {x5 : Int} {S : ZS} {Q : Option (Option ZV) → ZS → Prop} (h : zW (zb_mergeRows_p45 ZL d x1 x2 x3 x4 x5 S) Q) : zW (ZL d 627 [.inl x1, .inl x2, .inl x3, .inl x4, .inl x5] S) Q := zW_of zte (f := zf_627) rfl h
theorem zl_allFields_p28 {d : Nat} {x1 : Int} {x2 : Int} {x3 : Int} {y0 : Int} {S : ZS} {Q : Option (Option ZV) → ZS → Prop} (h : zW (zb_allFields_p28 ZL d x1 x2 x3 y0 S) Q) : zW (ZL d 628 [.inl x1, .inl x2, .inl x3, .inl y0] S) Q := zW_of zte (f := zf_628) rfl h
theorem zl_isEndless_p67 {d : Nat} {x2 : Int} {S : ZS} {Q : Option (Option ZV) → ZS → Prop} (h : zW (zb_isEndless_p67 ZL d x2 S) Q) : zW (ZL d 629 [.inl x2] S) Q := zW_of zte (f := zf_629) rfl h
theorem zl_admit_p152 {d : Nat} {x2 : Int} {S : ZS} {Q : Option (Option ZV) → ZS → Prop} (h : zW (zb_admit_p152 ZL d x2 S) Q) : zW (ZL d 630 [.inl x2] S) Q := zW_of zte (f := zf_630) rfl h
theorem zl_patternParts_p120 {d : Nat} {x1 : Int} {y0 : Int} {y1 : Int} {y2 : Int} {y3 : Int} {S : ZS} {Q : Option (Option ZV) → ZS → Prop} (h : zW (zb_patternParts_p120 ZL d x1 y0 y1 y2 y3 S) Q) : zW (ZL d 631 [.inl x1, .inl y0, .inl y1, .inl y2, .inl y3] S) Q := zW_of zte (f := zf_631) rfl h
theorem zl_toldVariable_p24 {d : Nat} {x1 : Int} {x2 : Int} {y0 : Int} {y1 : Int} {S : ZS} {Q : Option (Option ZV) → ZS → Prop} (h : zW (zb_toldVariable_p24 ZL d x1 x2 y0 y1 S) Q) : zW (ZL d 632 [.inl x1, .inl x2, .inl y0, .inl y1] S) Q := zW_of zte (f := zf_632) rfl h
theorem zl_toldName_p86 {d : Nat} {x2 : Int} {x4 : Int} {S : ZS} {Q : Option (Option ZV) → ZS → Prop} (h : zW (zb_toldName_p86 ZL d x2 x4 S) Q) : zW (ZL d 633 [.inl x2, .inl x4] S) Q := zW_of zte (f := zf_633) rfl h
theorem zl_toldOne_p40 {d : Nat} {x1 : Int} {x2 : Int} {x3 : Int} {x4 : Int} {x5 : Int} {x6 : Int} {y0 : Int} {y1 : Int} {S : ZS} {Q : Option (Option ZV) → ZS → Prop} (h : zW (zb_toldOne_p40 ZL d x1 x2 x3 x4 x5 x6 y0 y1 S) Q) : zW (ZL d 634 [.inl x1, .inl x2, .inl x3, .inl x4, .inl x5, .inl x6, .inl y0, .inl y1] S) Q := zW_of zte (f := zf_634) rfl h
theorem zl_patternAs_p114 {d : Nat} {x1 : Int} {x4 : Int} {x5 : Int} {S : ZS} {Q : Option (Option ZV) → ZS → Prop} (h : zW (zb_patternAs_p114 ZL d x1 x4 x5 S) Q) : zW (ZL d 635 [.inl x1, .inl x4, .inl x5] S) Q := zW_of zte (f := zf_635) rfl h
theorem zl_judgedApplication_p40 {d : Nat} {x1 : Int} {x4 : Int} {x5 : Int} {S : ZS} {Q : Option (Option ZV) → ZS → Prop} (h : zW (zb_judgedApplication_p40 ZL d x1 x4 x5 S) Q) : zW (ZL d 636 [.inl x1, .inl x4, .inl x5] S) Q := zW_of zte (f := zf_636) rfl h
theorem zl_rules_p115 {d : Nat} {x4 : Int} {x5 : Int} {x6 : Int} {x7 : Int} {x9 : Int} {x10 : Int} {x11 : Int} {x12 : Int} {x13 : Int} {x14 : Int} {S : ZS} {Q : Option (Option ZV) → ZS → Prop} (h : zW (zb_rules_p115 ZL d x4 x5 x6 x7 x9 x10 x11 x12 x13 x14 S) Q) : zW (ZL d 637 [.inl x4, .inl x5, .inl x6, .inr (.inl x7), .inl x9, .inl x10, .inl x11, .inl x12, .inl x13, .inl x14] S) Q := zW_of zte (f := zf_637) rfl h
theorem zl_does_p142 {d : Nat} {x3 : Int} {y0 : Int} {S : ZS} {Q : Option (Option ZV) → ZS → Prop} (h : zW (zb_does_p142 ZL d x3 y0 S) Q) : zW (ZL d 638 [.inl x3, .inl y0] S) Q := zW_of zte (f := zf_638) rfl h
theorem zl_does_p189 {d : Nat} {x4 : Int} {y0 : Int} {S : ZS} {Q : Option (Option ZV) → ZS → Prop} (h : zW (zb_does_p189 ZL d x4 y0 S) Q) : zW (ZL d 639 [.inl x4, .inl y0] S) Q := zW_of zte (f := zf_639) rfl h
theorem zl_through_p60 {d : Nat} {x2 : Int} {x3 : Int} {x4 : Int} {x5 : Int} {S : ZS} {Q : Option (Option ZV) → ZS → Prop} (h : zW (zb_through_p60 ZL d x2 x3 x4 x5 S) Q) : zW (ZL d 640 [.inl x2, .inl x3, .inl x4, .inl x5] S) Q := zW_of zte (f := zf_640) rfl h
theorem zl_sizeOf_p138 {d : Nat} {x2 : Int} {x3 : Int} {x4 : Int} {x6 : Int} {x7 : Int} {S : ZS} {Q : Option (Option ZV) → ZS → Prop} (h : zW (zb_sizeOf_p138 ZL d x2 x3 x4 x6 x7 S) Q) : zW (ZL d 641 [.inl x2, .inl x3, .inl x4, .inl x6, .inl x7] S) Q := zW_of zte (f := zf_641) rfl h
theorem zl_markRim_p25 {d : Nat} {x2 : Int} {x3 : Int} {S : ZS} {Q : Option (Option ZV) → ZS → Prop} (h : zW (zb_markRim_p25 ZL d x2 x3 S) Q) : zW (ZL d 642 [.inl x2, .inl x3] S) Q := zW_of zte (f := zf_642) rfl h
theorem zl_spreadRim_p89 {d : Nat} {x2 : Int} {x4 : Int} {x6 : Int} {S : ZS} {Q : Option (Option ZV) → ZS → Prop} (h : zW (zb_spreadRim_p89 ZL d x2 x4 x6 S) Q) : zW (ZL d 643 [.inl x2, .inl x4, .inl x6] S) Q := zW_of zte (f := zf_643) rfl h
theorem zl_generalise_p94 {d : Nat} {x3 : Int} {x4 : Int} {S : ZS} {Q : Option (Option ZV) → ZS → Prop} (h : zW (zb_generalise_p94 ZL d x3 x4 S) Q) : zW (ZL d 644 [.inl x3, .inl x4] S) Q := zW_of zte (f := zf_644) rfl h
theorem zl_judgedRec_p209 {d : Nat} {x1 : Int} {x2 : Int} {x3 : Int} {x4 : Int} {x5 : Int} {x6 : Int} {x7 : Int} {x8 : Int} {S : ZS} {Q : Option (Option ZV) → ZS → Prop} (h : zW (zb_judgedRec_p209 ZL d x1 x2 x3 x4 x5 x6 x7 x8 S) Q) : zW (ZL d 645 [.inl x1, .inl x2, .inl x3, .inl x4, .inl x5, .inl x6, .inl x7, .inl x8] S) Q := zW_of zte (f := zf_645) rfl h
theorem zl_judgedRec_p63 {d : Nat} {x1 : Int} {x2 : Int} {x3 : Int} {x4 : Int} {x5 : Int} {x6 : Int} {x7 : Int} {x8 : Int} {S : ZS} {Q : Option (Option ZV) → ZS → Prop} (h : zW (zb_judgedRec_p63 ZL d x1 x2 x3 x4 x5 x6 x7 x8 S) Q) : zW (ZL d 646 [.inl x1, .inl x2, .inl x3, .inl x4, .inl x5, .inl x6, .inl x7, .inl x8] S) Q := zW_of zte (f := zf_646) rfl h
theorem zl_judgedFun_p133 {d : Nat} {x1 : Int} {x2 : Int} {x3 : Int} {x4 : Int} {x5 : Int} {x6 : Int} {x7 : Int} {x8 : Int} {S : ZS} {Q : Option (Option ZV) → ZS → Prop} (h : zW (zb_judgedFun_p133 ZL d x1 x2 x3 x4 x5 x6 x7 x8 S) Q) : zW (ZL d 647 [.inl x1, .inl x2, .inl x3, .inl x4, .inl x5, .inl x6, .inl x7, .inl x8] S) Q := zW_of zte (f := zf_647) rfl h
theorem zl_judgedFunction_p128 {d : Nat} {x1 : Int} {x2 : Int} {x3 : Int} {x4 : Int} {x5 : Int} {x6 : Int} {x7 : Int} {x8 : Int} {x9 : Int} {x10 : Int} {x11 : Int} {x12 : Int} {x14 : Int} {S : ZS} {Q : Option (Option ZV) → ZS → Prop} (h : zW (zb_judgedFunction_p128 ZL d x1 x2 x3 x4 x5 x6 x7 x8 x9 x10 x11 x12 x14 S) Q) : zW (ZL d 648 [.inl x1, .inl x2, .inl x3, .inl x4, .inl x5, .inl x6, .inl x7, .inl x8, .inl x9, .inl x10, .inl x11, .inr (.inl x12), .inl x14] S) Q := zW_of zte (f := zf_648) rfl h
theorem zl_judgedClause_p135 {d : Nat} {x1 : Int} {x2 : Int} {x5 : Int} {x6 : Int} {x8 : Int} {x9 : Int} {x10 : Int} {x11 : Int} {x12 : Int} {S : ZS} {Q : Option (Option ZV) → ZS → Prop} (h : zW (zb_judgedClause_p135 ZL d x1 x2 x5 x6 x8 x9 x10 x11 x12 S) Q) : zW (ZL d 649 [.inl x1, .inl x2, .inl x5, .inl x6, .inl x8, .inl x9, .inl x10, .inl x11, .inl x12] S) Q := zW_of zte (f := zf_649) rfl h
theorem zl_lengthOf_fNext {d : Nat} {x1 : Int} {S : ZS} {Q : Option (Option ZV) → ZS → Prop} (h : zW (zb_lengthOf_fNext ZL d x1 S) Q) : zW (ZL d 650 [.inl x1] S) Q := zW_of zte (f := zf_650) rfl h
theorem zl_listed_p22 {d : Nat} {x2 : Int} {x3 : Int} {x4 : Int} {x5 : Int} {x6 : Int} {S : ZS} {Q : Option (Option ZV) → ZS → Prop} (h : zW (zb_listed_p22 ZL d x2 x3 x4 x5 x6 S) Q) : zW (ZL d 651 [.inl x2, .inl x3, .inl x4, .inl x5, .inl x6] S) Q := zW_of zte (f := zf_651) rfl h
theorem zl_judgedData_p212 {d : Nat} {x1 : Int} {x2 : Int} {x3 : Int} {x4 : Int} {x6 : Int} {S : ZS} {Q : Option (Option ZV) → ZS → Prop} (h : zW (zb_judgedData_p212 ZL d x1 x2 x3 x4 x6 S) Q) : zW (ZL d 652 [.inl x1, .inl x2, .inl x3, .inl x4, .inl x6] S) Q := zW_of zte (f := zf_652) rfl h
theorem zl_judgedData_p53 {d : Nat} {x1 : Int} {x2 : Int} {x3 : Int} {x4 : Int} {x5 : Int} {x6 : Int} {x7 : Int} {S : ZS} {Q : Option (Option ZV) → ZS → Prop} (h : zW (zb_judgedData_p53 ZL d x1 x2 x3 x4 x5 x6 x7 S) Q) : zW (ZL d 653 [.inl x1, .inl x2, .inl x3, .inl x4, .inl x5, .inl x6, .inl x7] S) Q := zW_of zte (f := zf_653) rfl h
theorem zl_judgedCons_p87 {d : Nat} {x2 : Int} {x3 : Int} {x4 : Int} {x5 : Int} {x6 : Int} {S : ZS} {Q : Option (Option ZV) → ZS → Prop} (h : zW (zb_judgedCons_p87 ZL d x2 x3 x4 x5 x6 S) Q) : zW (ZL d 654 [.inl x2, .inl x3, .inl x4, .inl x5, .inl x6] S) Q := zW_of zte (f := zf_654) rfl h
theorem zl_admits_p78 {d : Nat} {x3 : Int} {x4 : Int} {S : ZS} {Q : Option (Option ZV) → ZS → Prop} (h : zW (zb_admits_p78 ZL d x3 x4 S) Q) : zW (ZL d 655 [.inl x3, .inl x4] S) Q := zW_of zte (f := zf_655) rfl h
theorem zl_judgedException_p104 {d : Nat} {x1 : Int} {x3 : Int} {S : ZS} {Q : Option (Option ZV) → ZS → Prop} (h : zW (zb_judgedException_p104 ZL d x1 x3 S) Q) : zW (ZL d 656 [.inl x1, .inl x3] S) Q := zW_of zte (f := zf_656) rfl h
theorem zl_judgedLocal_p79 {d : Nat} {x2 : Int} {x3 : Int} {x5 : Int} {x6 : Int} {x7 : Int} {S : ZS} {Q : Option (Option ZV) → ZS → Prop} (h : zW (zb_judgedLocal_p79 ZL d x2 x3 x5 x6 x7 S) Q) : zW (ZL d 657 [.inl x2, .inl x3, .inl x5, .inl x6, .inl x7] S) Q := zW_of zte (f := zf_657) rfl h
theorem zl_finish_p55 {d : Nat} {x1 : Int} {x2 : Int} {S : ZS} {Q : Option (Option ZV) → ZS → Prop} (h : zW (zb_finish_p55 ZL d x1 x2 S) Q) : zW (ZL d 658 [.inl x1, .inl x2] S) Q := zW_of zte (f := zf_658) rfl h
theorem zl_finish_p120 {d : Nat} {x2 : Int} {S : ZS} {Q : Option (Option ZV) → ZS → Prop} (h : zW (zb_finish_p120 ZL d x2 S) Q) : zW (ZL d 659 [.inl x2] S) Q := zW_of zte (f := zf_659) rfl h
theorem zl_hasUnknown_p74 {d : Nat} {x3 : Int} {x4 : Int} {S : ZS} {Q : Option (Option ZV) → ZS → Prop} (h : zW (zb_hasUnknown_p74 ZL d x3 x4 S) Q) : zW (ZL d 660 [.inl x3, .inl x4] S) Q := zW_of zte (f := zf_660) rfl h
theorem zl_noteAll_p224 {d : Nat} {x1 : Int} {x2 : Int} {x3 : Int} {x4 : Int} {x5 : Int} {S : ZS} {Q : Option (Option ZV) → ZS → Prop} (h : zW (zb_noteAll_p224 ZL d x1 x2 x3 x4 x5 S) Q) : zW (ZL d 661 [.inl x1, .inl x2, .inl x3, .inl x4, .inl x5] S) Q := zW_of zte (f := zf_661) rfl h
theorem zl_lengthOf_next {d : Nat} {x1 : Int} {S : ZS} {Q : Option (Option ZV) → ZS → Prop} (h : zW (zb_lengthOf_next ZL d x1 S) Q) : zW (ZL d 662 [.inl x1] S) Q := zW_of zte (f := zf_662) rfl h
theorem zl_noteAll_p96 {d : Nat} {x1 : Int} {x2 : Int} {x3 : Int} {x4 : Int} {x5 : Int} {x6 : Int} {S : ZS} {Q : Option (Option ZV) → ZS → Prop} (h : zW (zb_noteAll_p96 ZL d x1 x2 x3 x4 x5 x6 S) Q) : zW (ZL d 663 [.inl x1, .inl x2, .inl x3, .inl x4, .inl x5, .inl x6] S) Q := zW_of zte (f := zf_663) rfl h
theorem zl_noteAll_p189 {d : Nat} {x1 : Int} {x2 : Int} {x3 : Int} {x4 : Int} {x5 : Int} {x6 : Int} {S : ZS} {Q : Option (Option ZV) → ZS → Prop} (h : zW (zb_noteAll_p189 ZL d x1 x2 x3 x4 x5 x6 S) Q) : zW (ZL d 664 [.inl x1, .inl x2, .inl x3, .inl x4, .inl x5, .inl x6] S) Q := zW_of zte (f := zf_664) rfl h
theorem zl_isUseful_p61 {d : Nat} {x2 : Int} {x3 : Int} {x4 : Int} {x5 : Int} {x6 : Int} {S : ZS} {Q : Option (Option ZV) → ZS → Prop} (h : zW (zb_isUseful_p61 ZL d x2 x3 x4 x5 x6 S) Q) : zW (ZL d 665 [.inl x2, .inl x3, .inl x4, .inl x5, .inl x6] S) Q := zW_of zte (f := zf_665) rfl h
theorem zl_usefulHere_p110 {d : Nat} {x1 : Int} {x3 : Int} {x4 : Int} {x5 : Int} {x6 : Int} {S : ZS} {Q : Option (Option ZV) → ZS → Prop} (h : zW (zb_usefulHere_p110 ZL d x1 x3 x4 x5 x6 S) Q) : zW (ZL d 666 [.inl x1, .inl x3, .inl x4, .inl x5, .inl x6] S) Q := zW_of zte (f := zf_666) rfl h
theorem zl_takesAll_p14 {d : Nat} {x1 : Int} {x2 : Int} {x3 : Int} {S : ZS} {Q : Option (Option ZV) → ZS → Prop} (h : zW (zb_takesAll_p14 ZL d x1 x2 x3 S) Q) : zW (ZL d 667 [.inl x1, .inl x2, .inl x3] S) Q := zW_of zte (f := zf_667) rfl h
theorem zl_bare0_p26 {d : Nat} {x2 : Int} {S : ZS} {Q : Option (Option ZV) → ZS → Prop} (h : zW (zb_bare0_p26 ZL d x2 S) Q) : zW (ZL d 668 [.inl x2] S) Q := zW_of zte (f := zf_668) rfl h
theorem zl_rowStep_p64 {d : Nat} {x1 : Int} {x2 : Int} {x3 : Int} {S : ZS} {Q : Option (Option ZV) → ZS → Prop} (h : zW (zb_rowStep_p64 ZL d x1 x2 x3 S) Q) : zW (ZL d 669 [.inl x1, .inl x2, .inl x3] S) Q := zW_of zte (f := zf_669) rfl h
theorem zl_labelsOf_p96 {d : Nat} {x2 : Int} {x3 : Int} {S : ZS} {Q : Option (Option ZV) → ZS → Prop} (h : zW (zb_labelsOf_p96 ZL d x2 x3 S) Q) : zW (ZL d 670 [.inl x2, .inl x3] S) Q := zW_of zte (f := zf_670) rfl h
theorem zl_narrowed_p90 {d : Nat} {x1 : Int} {x2 : Int} {x3 : Int} {x4 : Int} {x5 : Int} {x6 : Int} {x7 : Int} {x8 : Int} {S : ZS} {Q : Option (Option ZV) → ZS → Prop} (h : zW (zb_narrowed_p90 ZL d x1 x2 x3 x4 x5 x6 x7 x8 S) Q) : zW (ZL d 671 [.inl x1, .inl x2, .inl x3, .inl x4, .inl x5, .inl x6, .inl x7, .inl x8] S) Q := zW_of zte (f := zf_671) rfl h
theorem zl_areAllTold_p29 {d : Nat} {x1 : Int} {x2 : Int} {x3 : Int} {x4 : Int} {S : ZS} {Q : Option (Option ZV) → ZS → Prop} (h : zW (zb_areAllTold_p29 ZL d x1 x2 x3 x4 S) Q) : zW (ZL d 672 [.inl x1, .inl x2, .inl x3, .inl x4] S) Q := zW_of zte (f := zf_672) rfl h
theorem zl_usefulByEach_p98 {d : Nat} {x1 : Int} {x2 : Int} {x3 : Int} {x4 : Int} {x5 : Int} {x7 : Int} {y0 : Int} {y1 : Int} {S : ZS} {Q : Option (Option ZV) → ZS → Prop} (h : zW (zb_usefulByEach_p98 ZL d x1 x2 x3 x4 x5 x7 y0 y1 S) Q) : zW (ZL d 673 [.inl x1, .inl x2, .inl x3, .inl x4, .inl x5, .inl x7, .inl y0, .inl y1] S) Q := zW_of zte (f := zf_673) rfl h
theorem zl_note0_p79 {d : Nat} {x1 : Int} {x2 : Int} {x3 : Int} {S : ZS} {Q : Option (Option ZV) → ZS → Prop} (h : zW (zb_note0_p79 ZL d x1 x2 x3 S) Q) : zW (ZL d 674 [.inl x1, .inl x2, .inl x3] S) Q := zW_of zte (f := zf_674) rfl h
theorem zl_note0_p45 {d : Nat} {x1 : Int} {x2 : Int} {x3 : Int} {S : ZS} {Q : Option (Option ZV) → ZS → Prop} (h : zW (zb_note0_p45 ZL d x1 x2 x3 S) Q) : zW (ZL d 675 [.inl x1, .inl x2, .inl x3] S) Q := zW_of zte (f := zf_675) rfl h
theorem zl_runAll_p46 {d : Nat}  {S : ZS} {Q : Option (Option ZV) → ZS → Prop} (h : zW (zb_runAll_p46 ZL d  S) Q) : zW (ZL d 676 [] S) Q := zW_of zte (f := zf_676) rfl h
theorem zl_goesOn_2_p224 {d : Nat} {x2 : Int} {x3 : Int} {y0 : Int} {y1 : Int} {S : ZS} {Q : Option (Option ZV) → ZS → Prop} (h : zW (zb_goesOn_2_p224 ZL d x2 x3 y0 y1 S) Q) : zW (ZL d 677 [.inl x2, .inl x3, .inl y0, .inl y1] S) Q := zW_of zte (f := zf_677) rfl h
theorem zl_areEqual_p101 {d : Nat} {x5 : Int} {x6 : Int} {x8 : Int} {x10 : Int} {S : ZS} {Q : Option (Option ZV) → ZS → Prop} (h : zW (zb_areEqual_p101 ZL d x5 x6 x8 x10 S) Q) : zW (ZL d 678 [.inl x5, .inr (.inl x6), .inr (.inl x8), .inr (.inl x10)] S) Q := zW_of zte (f := zf_678) rfl h
theorem zl_joinedStrings_p101 {d : Nat} {x6 : Int} {x8 : Int} {x10 : Int} {S : ZS} {Q : Option (Option ZV) → ZS → Prop} (h : zW (zb_joinedStrings_p101 ZL d x6 x8 x10 S) Q) : zW (ZL d 679 [.inl x6, .inr (.inl x8), .inl x10] S) Q := zW_of zte (f := zf_679) rfl h
theorem zl_imploded_p70 {d : Nat} {x4 : Int} {x6 : Int} {S : ZS} {Q : Option (Option ZV) → ZS → Prop} (h : zW (zb_imploded_p70 ZL d x4 x6 S) Q) : zW (ZL d 680 [.inr (.inl x4), .inr (.inl x6)] S) Q := zW_of zte (f := zf_680) rfl h
theorem zl_digitsOf_p29 {d : Nat} {x1 : Int} {x3 : Int} {x5 : Int} {x6 : Int} {S : ZS} {Q : Option (Option ZV) → ZS → Prop} (h : zW (zb_digitsOf_p29 ZL d x1 x3 x5 x6 S) Q) : zW (ZL d 681 [.inr (.inl x1), .inr (.inl x3), .inl x5, .inr (.inl x6)] S) Q := zW_of zte (f := zf_681) rfl h
theorem zl_call_p144 {d : Nat} {x1 : Int} {x3 : Int} {x5 : Int} {x7 : Int} {S : ZS} {Q : Option (Option ZV) → ZS → Prop} (h : zW (zb_call_p144 ZL d x1 x3 x5 x7 S) Q) : zW (ZL d 682 [.inr (.inl x1), .inr (.inl x3), .inl x5, .inl x7] S) Q := zW_of zte (f := zf_682) rfl h
theorem zl_body_p68 {d : Nat} {x2 : Int} {x3 : Int} {x4 : Int} {x5 : Int} {S : ZS} {Q : Option (Option ZV) → ZS → Prop} (h : zW (zb_body_p68 ZL d x2 x3 x4 x5 S) Q) : zW (ZL d 683 [.inl x2, .inl x3, .inl x4, .inl x5] S) Q := zW_of zte (f := zf_683) rfl h
theorem zl_rec_p68 {d : Nat} {x2 : Int} {S : ZS} {Q : Option (Option ZV) → ZS → Prop} (h : zW (zb_rec_p68 ZL d x2 S) Q) : zW (ZL d 684 [.inl x2] S) Q := zW_of zte (f := zf_684) rfl h
theorem zl_fun_p59 {d : Nat} {x2 : Int} {S : ZS} {Q : Option (Option ZV) → ZS → Prop} (h : zW (zb_fun_p59 ZL d x2 S) Q) : zW (ZL d 685 [.inl x2] S) Q := zW_of zte (f := zf_685) rfl h
theorem zl_rowOf_p58 {d : Nat} {x3 : Int} {x4 : Int} {x5 : Int} {x6 : Int} {S : ZS} {Q : Option (Option ZV) → ZS → Prop} (h : zW (zb_rowOf_p58 ZL d x3 x4 x5 x6 S) Q) : zW (ZL d 686 [.inl x3, .inl x4, .inl x5, .inl x6] S) Q := zW_of zte (f := zf_686) rfl h
theorem zl_shapeOf_p51 {d : Nat} {x1 : Int} {x2 : Int} {x3 : Int} {x4 : Int} {S : ZS} {Q : Option (Option ZV) → ZS → Prop} (h : zW (zb_shapeOf_p51 ZL d x1 x2 x3 x4 S) Q) : zW (ZL d 687 [.inl x1, .inl x2, .inl x3, .inl x4] S) Q := zW_of zte (f := zf_687) rfl h
theorem zl_likeShape_p29 {d : Nat} {x1 : Int} {x2 : Int} {x3 : Int} {x4 : Int} {S : ZS} {Q : Option (Option ZV) → ZS → Prop} (h : zW (zb_likeShape_p29 ZL d x1 x2 x3 x4 S) Q) : zW (ZL d 688 [.inl x1, .inl x2, .inl x3, .inl x4] S) Q := zW_of zte (f := zf_688) rfl h
theorem zl_keepBound_p150 {d : Nat} {x3 : Int} {x4 : Int} {S : ZS} {Q : Option (Option ZV) → ZS → Prop} (h : zW (zb_keepBound_p150 ZL d x3 x4 S) Q) : zW (ZL d 689 [.inl x3, .inl x4] S) Q := zW_of zte (f := zf_689) rfl h
theorem zl_keepBound_p68 {d : Nat} {x1 : Int} {x2 : Int} {x3 : Int} {y0 : Int} {y1 : Int} {S : ZS} {Q : Option (Option ZV) → ZS → Prop} (h : zW (zb_keepBound_p68 ZL d x1 x2 x3 y0 y1 S) Q) : zW (ZL d 690 [.inl x1, .inl x2, .inl x3, .inl y0, .inl y1] S) Q := zW_of zte (f := zf_690) rfl h
theorem zl_keepInfix_p118 {d : Nat} {x2 : Int} {x3 : Int} {S : ZS} {Q : Option (Option ZV) → ZS → Prop} (h : zW (zb_keepInfix_p118 ZL d x2 x3 S) Q) : zW (ZL d 691 [.inl x2, .inl x3] S) Q := zW_of zte (f := zf_691) rfl h
theorem zl_keepInfix_p22 {d : Nat} {x1 : Int} {x2 : Int} {x3 : Int} {x4 : Int} {S : ZS} {Q : Option (Option ZV) → ZS → Prop} (h : zW (zb_keepInfix_p22 ZL d x1 x2 x3 x4 S) Q) : zW (ZL d 692 [.inl x1, .inl x2, .inl x3, .inl x4] S) Q := zW_of zte (f := zf_692) rfl h
theorem zl_keepTypes_p46 {d : Nat} {x2 : Int} {x3 : Int} {S : ZS} {Q : Option (Option ZV) → ZS → Prop} (h : zW (zb_keepTypes_p46 ZL d x2 x3 S) Q) : zW (ZL d 693 [.inl x2, .inl x3] S) Q := zW_of zte (f := zf_693) rfl h
theorem zl_endOf_p58 {d : Nat} {x3 : Int} {x4 : Int} {x5 : Int} {x6 : Int} {S : ZS} {Q : Option (Option ZV) → ZS → Prop} (h : zW (zb_endOf_p58 ZL d x3 x4 x5 x6 S) Q) : zW (ZL d 694 [.inl x3, .inl x4, .inl x5, .inl x6] S) Q := zW_of zte (f := zf_694) rfl h
theorem zl_noteLines_p52 {d : Nat} {x1 : Int} {x2 : Int} {S : ZS} {Q : Option (Option ZV) → ZS → Prop} (h : zW (zb_noteLines_p52 ZL d x1 x2 S) Q) : zW (ZL d 695 [.inl x1, .inl x2] S) Q := zW_of zte (f := zf_695) rfl h
theorem zl_sayInt_p28 {d : Nat} {x3 : Int} {x5 : Int} {S : ZS} {Q : Option (Option ZV) → ZS → Prop} (h : zW (zb_sayInt_p28 ZL d x3 x5 S) Q) : zW (ZL d 696 [.inr (.inl x3), .inr (.inl x5)] S) Q := zW_of zte (f := zf_696) rfl h
theorem zl_sayRow_p84 {d : Nat} {x1 : Int} {x3 : Int} {x4 : Int} {x5 : Int} {x6 : Int} {S : ZS} {Q : Option (Option ZV) → ZS → Prop} (h : zW (zb_sayRow_p84 ZL d x1 x3 x4 x5 x6 S) Q) : zW (ZL d 697 [.inr (.inl x1), .inl x3, .inl x4, .inl x5, .inl x6] S) Q := zW_of zte (f := zf_697) rfl h
theorem zl_sayBehind_p38 {d : Nat} {x1 : Int} {x3 : Int} {x4 : Int} {S : ZS} {Q : Option (Option ZV) → ZS → Prop} (h : zW (zb_sayBehind_p38 ZL d x1 x3 x4 S) Q) : zW (ZL d 698 [.inr (.inl x1), .inl x3, .inl x4] S) Q := zW_of zte (f := zf_698) rfl h
theorem zl_sayMade_p91 {d : Nat} {x3 : Int} {x6 : Int} {S : ZS} {Q : Option (Option ZV) → ZS → Prop} (h : zW (zb_sayMade_p91 ZL d x3 x6 S) Q) : zW (ZL d 699 [.inl x3, .inr (.inl x6)] S) Q := zW_of zte (f := zf_699) rfl h
theorem zl_sayType_p82 {d : Nat} {x2 : Int} {x3 : Int} {x4 : Int} {y0 : Int} {S : ZS} {Q : Option (Option ZV) → ZS → Prop} (h : zW (zb_sayType_p82 ZL d x2 x3 x4 y0 S) Q) : zW (ZL d 700 [.inl x2, .inl x3, .inl x4, .inl y0] S) Q := zW_of zte (f := zf_700) rfl h
theorem zl_sayVariable_p26 {d : Nat} {x1 : Int} {x2 : Int} {S : ZS} {Q : Option (Option ZV) → ZS → Prop} (h : zW (zb_sayVariable_p26 ZL d x1 x2 S) Q) : zW (ZL d 701 [.inl x1, .inl x2] S) Q := zW_of zte (f := zf_701) rfl h
theorem zl_isTuple_p41 {d : Nat} {x1 : Int} {x2 : Int} {x3 : Int} {x4 : Int} {S : ZS} {Q : Option (Option ZV) → ZS → Prop} (h : zW (zb_isTuple_p41 ZL d x1 x2 x3 x4 S) Q) : zW (ZL d 702 [.inl x1, .inl x2, .inl x3, .inl x4] S) Q := zW_of zte (f := zf_702) rfl h
theorem zl_sayRowType_p47 {d : Nat} {x1 : Int} {x2 : Int} {x3 : Int} {x5 : Int} {x6 : Int} {S : ZS} {Q : Option (Option ZV) → ZS → Prop} (h : zW (zb_sayRowType_p47 ZL d x1 x2 x3 x5 x6 S) Q) : zW (ZL d 703 [.inl x1, .inl x2, .inl x3, .inl x5, .inl x6] S) Q := zW_of zte (f := zf_703) rfl h
theorem zl_sayMadeType_p55 {d : Nat} {x1 : Int} {x2 : Int} {x3 : Int} {S : ZS} {Q : Option (Option ZV) → ZS → Prop} (h : zW (zb_sayMadeType_p55 ZL d x1 x2 x3 S) Q) : zW (ZL d 704 [.inl x1, .inl x2, .inl x3] S) Q := zW_of zte (f := zf_704) rfl h
theorem zl_sayVars_p39 {d : Nat} {x1 : Int} {x2 : Int} {x3 : Int} {S : ZS} {Q : Option (Option ZV) → ZS → Prop} (h : zW (zb_sayVars_p39 ZL d x1 x2 x3 S) Q) : zW (ZL d 705 [.inl x1, .inl x2, .inl x3] S) Q := zW_of zte (f := zf_705) rfl h
theorem zl_sign0_p260 {d : Nat} {x2 : Int} {x3 : Int} {S : ZS} {Q : Option (Option ZV) → ZS → Prop} (h : zW (zb_sign0_p260 ZL d x2 x3 S) Q) : zW (ZL d 706 [.inl x2, .inl x3] S) Q := zW_of zte (f := zf_706) rfl h
theorem zl_gaps_p145 {d : Nat} {x1 : Int} {x2 : Int} {x3 : Int} {S : ZS} {Q : Option (Option ZV) → ZS → Prop} (h : zW (zb_gaps_p145 ZL d x1 x2 x3 S) Q) : zW (ZL d 707 [.inl x1, .inl x2, .inl x3] S) Q := zW_of zte (f := zf_707) rfl h
theorem zl_nameAt_text_p45 {d : Nat} {x2 : Int} {x3 : Int} {x4 : Int} {x5 : Int} {S : ZS} {Q : Option (Option ZV) → ZS → Prop} (h : zW (zb_nameAt_text_p45 ZL d x2 x3 x4 x5 S) Q) : zW (ZL d 708 [.inl x2, .inl x3, .inl x4, .inl x5] S) Q := zW_of zte (f := zf_708) rfl h
theorem zl_readInt_p96 {d : Nat} {x1 : Int} {x2 : Int} {y0 : Int} {y1 : Int} {S : ZS} {Q : Option (Option ZV) → ZS → Prop} (h : zW (zb_readInt_p96 ZL d x1 x2 y0 y1 S) Q) : zW (ZL d 709 [.inl x1, .inr (.inl x2), .inr (.inl y0), .inr (.inl y1)] S) Q := zW_of zte (f := zf_709) rfl h
theorem zl_readInt_p68 {d : Nat} {x1 : Int} {y0 : Int} {S : ZS} {Q : Option (Option ZV) → ZS → Prop} (h : zW (zb_readInt_p68 ZL d x1 y0 S) Q) : zW (ZL d 710 [.inl x1, .inr (.inl y0)] S) Q := zW_of zte (f := zf_710) rfl h
theorem zl_readString_p159 {d : Nat} {x1 : Int} {x2 : Int} {S : ZS} {Q : Option (Option ZV) → ZS → Prop} (h : zW (zb_readString_p159 ZL d x1 x2 S) Q) : zW (ZL d 711 [.inl x1, .inl x2] S) Q := zW_of zte (f := zf_711) rfl h
theorem zl_readEscape_p131 {d : Nat} {x2 : Int} {x3 : Int} {x4 : Int} {y0 : Int} {y1 : Int} {S : ZS} {Q : Option (Option ZV) → ZS → Prop} (h : zW (zb_readEscape_p131 ZL d x2 x3 x4 y0 y1 S) Q) : zW (ZL d 712 [.inl x2, .inl x3, .inl x4, .inl y0, .inl y1] S) Q := zW_of zte (f := zf_712) rfl h
theorem zl_infixed_p54 {d : Nat} {x1 : Int} {x2 : Int} {x3 : Int} {x4 : Int} {S : ZS} {Q : Option (Option ZV) → ZS → Prop} (h : zW (zb_infixed_p54 ZL d x1 x2 x3 x4 S) Q) : zW (ZL d 713 [.inl x1, .inl x2, .inl x3, .inl x4] S) Q := zW_of zte (f := zf_713) rfl h
theorem zl_patternField_p137 {d : Nat} {x1 : Int} {x3 : Int} {x5 : Int} {S : ZS} {Q : Option (Option ZV) → ZS → Prop} (h : zW (zb_patternField_p137 ZL d x1 x3 x5 S) Q) : zW (ZL d 714 [.inl x1, .inl x3, .inl x5] S) Q := zW_of zte (f := zf_714) rfl h
theorem zl_patternHeld_p73 {d : Nat} {x1 : Int} {x2 : Int} {x3 : Int} {x4 : Int} {x6 : Int} {x8 : Int} {S : ZS} {Q : Option (Option ZV) → ZS → Prop} (h : zW (zb_patternHeld_p73 ZL d x1 x2 x3 x4 x6 x8 S) Q) : zW (ZL d 715 [.inl x1, .inl x2, .inl x3, .inl x4, .inl x6, .inl x8] S) Q := zW_of zte (f := zf_715) rfl h
theorem zl_clause_p191 {d : Nat} {x1 : Int} {x4 : Int} {x5 : Int} {x6 : Int} {S : ZS} {Q : Option (Option ZV) → ZS → Prop} (h : zW (zb_clause_p191 ZL d x1 x4 x5 x6 S) Q) : zW (ZL d 716 [.inl x1, .inl x4, .inl x5, .inl x6] S) Q := zW_of zte (f := zf_716) rfl h
theorem zl_clause_p89 {d : Nat} {x1 : Int} {y0 : Int} {S : ZS} {Q : Option (Option ZV) → ZS → Prop} (h : zW (zb_clause_p89 ZL d x1 y0 S) Q) : zW (ZL d 717 [.inl x1, .inl y0] S) Q := zW_of zte (f := zf_717) rfl h
theorem zl_constructors_p66 {d : Nat} {x1 : Int} {x2 : Int} {y0 : Int} {y1 : Int} {y2 : Int} {y3 : Int} {S : ZS} {Q : Option (Option ZV) → ZS → Prop} (h : zW (zb_constructors_p66 ZL d x1 x2 y0 y1 y2 y3 S) Q) : zW (ZL d 718 [.inl x1, .inl x2, .inl y0, .inl y1, .inl y2, .inl y3] S) Q := zW_of zte (f := zf_718) rfl h
theorem zl_infixes_p76 {d : Nat} {x1 : Int} {x2 : Int} {x3 : Int} {S : ZS} {Q : Option (Option ZV) → ZS → Prop} (h : zW (zb_infixes_p76 ZL d x1 x2 x3 S) Q) : zW (ZL d 719 [.inl x1, .inl x2, .inl x3] S) Q := zW_of zte (f := zf_719) rfl h
theorem zl_found_p85 {d : Nat} {x1 : Int} {x2 : Int} {x3 : Int} {S : ZS} {Q : Option (Option ZV) → ZS → Prop} (h : zW (zb_found_p85 ZL d x1 x2 x3 S) Q) : zW (ZL d 720 [.inl x1, .inl x2, .inl x3] S) Q := zW_of zte (f := zf_720) rfl h
theorem zl_readSign_p164 {d : Nat} {x1 : Int} {x2 : Int} {x3 : Int} {x4 : Int} {x5 : Int} {x6 : Int} {x7 : Int} {S : ZS} {Q : Option (Option ZV) → ZS → Prop} (h : zW (zb_readSign_p164 ZL d x1 x2 x3 x4 x5 x6 x7 S) Q) : zW (ZL d 721 [.inl x1, .inl x2, .inl x3, .inl x4, .inl x5, .inl x6, .inl x7] S) Q := zW_of zte (f := zf_721) rfl h
theorem zl_copied_p81 {d : Nat} {x1 : Int} {x3 : Int} {x4 : Int} {x5 : Int} {S : ZS} {Q : Option (Option ZV) → ZS → Prop} (h : zW (zb_copied_p81 ZL d x1 x3 x4 x5 S) Q) : zW (ZL d 722 [.inl x1, .inl x3, .inl x4, .inl x5] S) Q := zW_of zte (f := zf_722) rfl h
theorem zl_merge_p83 {d : Nat} {x1 : Int} {x2 : Int} {y0 : Int} {S : ZS} {Q : Option (Option ZV) → ZS → Prop} (h : zW (zb_merge_p83 ZL d x1 x2 y0 S) Q) : zW (ZL d 723 [.inl x1, .inl x2, .inl y0] S) Q := zW_of zte (f := zf_723) rfl h
theorem zl_mergeRows_p99 {d : Nat} {x1 : Int} {x2 : Int} {x3 : Int} {x4 : Int} {x5 : Int} {S : ZS} {Q : Option (Option ZV) → ZS → Prop} (h : zW (zb_mergeRows_p99 ZL d x1 x2 x3 x4 x5 S) Q) : zW (ZL d 724 [.inl x1, .inl x2, .inl x3, .inl x4, .inl x5] S) Q := zW_of zte (f := zf_724) rfl h
theorem zl_allFields_p48 {d : Nat} {x3 : Int} {x4 : Int} {x5 : Int} {x6 : Int} {x7 : Int} {S : ZS} {Q : Option (Option ZV) → ZS → Prop} (h : zW (zb_allFields_p48 ZL d x3 x4 x5 x6 x7 S) Q) : zW (ZL d 725 [.inl x3, .inl x4, .inl x5, .inl x6, .inl x7] S) Q := zW_of zte (f := zf_725) rfl h
theorem zl_isEndless_p191 {d : Nat} {x2 : Int} {x4 : Int} {S : ZS} {Q : Option (Option ZV) → ZS → Prop} (h : zW (zb_isEndless_p191 ZL d x2 x4 S) Q) : zW (ZL d 726 [.inl x2, .inl x4] S) Q := zW_of zte (f := zf_726) rfl h
theorem zl_toldVariable_p63 {d : Nat} {x1 : Int} {S : ZS} {Q : Option (Option ZV) → ZS → Prop} (h : zW (zb_toldVariable_p63 ZL d x1 S) Q) : zW (ZL d 727 [.inl x1] S) Q := zW_of zte (f := zf_727) rfl h
theorem zl_toldOne_p66 {d : Nat} {x1 : Int} {x2 : Int} {x3 : Int} {x5 : Int} {x6 : Int} {x7 : Int} {S : ZS} {Q : Option (Option ZV) → ZS → Prop} (h : zW (zb_toldOne_p66 ZL d x1 x2 x3 x5 x6 x7 S) Q) : zW (ZL d 728 [.inl x1, .inl x2, .inl x3, .inl x5, .inl x6, .inl x7] S) Q := zW_of zte (f := zf_728) rfl h
theorem zl_judgedApplication_p51 {d : Nat} {x1 : Int} {x4 : Int} {x5 : Int} {x6 : Int} {x7 : Int} {S : ZS} {Q : Option (Option ZV) → ZS → Prop} (h : zW (zb_judgedApplication_p51 ZL d x1 x4 x5 x6 x7 S) Q) : zW (ZL d 729 [.inl x1, .inl x4, .inl x5, .inl x6, .inl x7] S) Q := zW_of zte (f := zf_729) rfl h
theorem zl_rules_p178 {d : Nat} {x4 : Int} {x5 : Int} {x6 : Int} {x7 : Int} {x9 : Int} {x10 : Int} {x13 : Int} {x14 : Int} {S : ZS} {Q : Option (Option ZV) → ZS → Prop} (h : zW (zb_rules_p178 ZL d x4 x5 x6 x7 x9 x10 x13 x14 S) Q) : zW (ZL d 730 [.inl x4, .inl x5, .inl x6, .inr (.inl x7), .inl x9, .inl x10, .inl x13, .inl x14] S) Q := zW_of zte (f := zf_730) rfl h
theorem zl_through_p102 {d : Nat} {x2 : Int} {x3 : Int} {x5 : Int} {S : ZS} {Q : Option (Option ZV) → ZS → Prop} (h : zW (zb_through_p102 ZL d x2 x3 x5 S) Q) : zW (ZL d 731 [.inl x2, .inl x3, .inl x5] S) Q := zW_of zte (f := zf_731) rfl h
theorem zl_through_p135 {d : Nat} {x2 : Int} {x3 : Int} {x5 : Int} {S : ZS} {Q : Option (Option ZV) → ZS → Prop} (h : zW (zb_through_p135 ZL d x2 x3 x5 S) Q) : zW (ZL d 732 [.inl x2, .inl x3, .inl x5] S) Q := zW_of zte (f := zf_732) rfl h
theorem zl_markRim_p70 {d : Nat} {x3 : Int} {S : ZS} {Q : Option (Option ZV) → ZS → Prop} (h : zW (zb_markRim_p70 ZL d x3 S) Q) : zW (ZL d 733 [.inl x3] S) Q := zW_of zte (f := zf_733) rfl h
theorem zl_generalise_p128 {d : Nat} {x3 : Int} {x5 : Int} {S : ZS} {Q : Option (Option ZV) → ZS → Prop} (h : zW (zb_generalise_p128 ZL d x3 x5 S) Q) : zW (ZL d 734 [.inl x3, .inl x5] S) Q := zW_of zte (f := zf_734) rfl h
theorem zl_judgedRec_p266 {d : Nat} {x2 : Int} {x3 : Int} {x4 : Int} {x5 : Int} {x6 : Int} {x8 : Int} {S : ZS} {Q : Option (Option ZV) → ZS → Prop} (h : zW (zb_judgedRec_p266 ZL d x2 x3 x4 x5 x6 x8 S) Q) : zW (ZL d 735 [.inl x2, .inl x3, .inl x4, .inl x5, .inl x6, .inl x8] S) Q := zW_of zte (f := zf_735) rfl h
theorem zl_judgedFun_p194 {d : Nat} {x2 : Int} {x3 : Int} {x4 : Int} {x5 : Int} {x6 : Int} {x8 : Int} {x9 : Int} {S : ZS} {Q : Option (Option ZV) → ZS → Prop} (h : zW (zb_judgedFun_p194 ZL d x2 x3 x4 x5 x6 x8 x9 S) Q) : zW (ZL d 736 [.inl x2, .inl x3, .inl x4, .inl x5, .inl x6, .inl x8, .inl x9] S) Q := zW_of zte (f := zf_736) rfl h
theorem zl_judgedFunction_p274 {d : Nat} {x1 : Int} {x2 : Int} {x3 : Int} {x10 : Int} {x14 : Int} {x15 : Int} {S : ZS} {Q : Option (Option ZV) → ZS → Prop} (h : zW (zb_judgedFunction_p274 ZL d x1 x2 x3 x10 x14 x15 S) Q) : zW (ZL d 737 [.inl x1, .inl x2, .inl x3, .inl x10, .inl x14, .inl x15] S) Q := zW_of zte (f := zf_737) rfl h
theorem zl_judgedFunction_p161 {d : Nat} {x1 : Int} {x2 : Int} {x3 : Int} {x4 : Int} {x5 : Int} {x6 : Int} {x7 : Int} {x8 : Int} {x9 : Int} {x10 : Int} {x11 : Int} {x12 : Int} {x14 : Int} {x15 : Int} {x16 : Int} {S : ZS} {Q : Option (Option ZV) → ZS → Prop} (h : zW (zb_judgedFunction_p161 ZL d x1 x2 x3 x4 x5 x6 x7 x8 x9 x10 x11 x12 x14 x15 x16 S) Q) : zW (ZL d 738 [.inl x1, .inl x2, .inl x3, .inl x4, .inl x5, .inl x6, .inl x7, .inl x8, .inl x9, .inl x10, .inl x11, .inr (.inl x12), .inl x14, .inl x15, .inl x16] S) Q := zW_of zte (f := zf_738) rfl h
theorem zl_judgedClause_p249 {d : Nat} {x2 : Int} {x5 : Int} {x8 : Int} {y0 : Int} {S : ZS} {Q : Option (Option ZV) → ZS → Prop} (h : zW (zb_judgedClause_p249 ZL d x2 x5 x8 y0 S) Q) : zW (ZL d 739 [.inl x2, .inl x5, .inl x8, .inl y0] S) Q := zW_of zte (f := zf_739) rfl h
theorem zl_judgedClause_p196 {d : Nat} {x1 : Int} {x2 : Int} {x5 : Int} {x6 : Int} {x8 : Int} {x9 : Int} {x10 : Int} {x11 : Int} {x12 : Int} {S : ZS} {Q : Option (Option ZV) → ZS → Prop} (h : zW (zb_judgedClause_p196 ZL d x1 x2 x5 x6 x8 x9 x10 x11 x12 S) Q) : zW (ZL d 740 [.inl x1, .inl x2, .inl x5, .inl x6, .inl x8, .inl x9, .inl x10, .inl x11, .inl x12] S) Q := zW_of zte (f := zf_740) rfl h
theorem zl_lengthOf_fNext_p4 {d : Nat} {x2 : Int} {x3 : Int} {S : ZS} {Q : Option (Option ZV) → ZS → Prop} (h : zW (zb_lengthOf_fNext_p4 ZL d x2 x3 S) Q) : zW (ZL d 741 [.inl x2, .inl x3] S) Q := zW_of zte (f := zf_741) rfl h
theorem zl_listed_p97 {d : Nat} {x2 : Int} {x3 : Int} {x4 : Int} {x5 : Int} {y0 : Int} {y1 : Int} {y2 : Int} {y3 : Int} {y4 : Int} {S : ZS} {Q : Option (Option ZV) → ZS → Prop} (h : zW (zb_listed_p97 ZL d x2 x3 x4 x5 y0 y1 y2 y3 y4 S) Q) : zW (ZL d 742 [.inl x2, .inl x3, .inl x4, .inl x5, .inl y0, .inl y1, .inl y2, .inl y3, .inl y4] S) Q := zW_of zte (f := zf_742) rfl h
theorem zl_judgedData_p277 {d : Nat} {x1 : Int} {x2 : Int} {x3 : Int} {x4 : Int} {x6 : Int} {x7 : Int} {S : ZS} {Q : Option (Option ZV) → ZS → Prop} (h : zW (zb_judgedData_p277 ZL d x1 x2 x3 x4 x6 x7 S) Q) : zW (ZL d 743 [.inl x1, .inl x2, .inl x3, .inl x4, .inl x6, .inl x7] S) Q := zW_of zte (f := zf_743) rfl h
theorem zl_judgedCons_p180 {d : Nat} {x2 : Int} {x3 : Int} {x4 : Int} {x5 : Int} {y0 : Int} {S : ZS} {Q : Option (Option ZV) → ZS → Prop} (h : zW (zb_judgedCons_p180 ZL d x2 x3 x4 x5 y0 S) Q) : zW (ZL d 744 [.inl x2, .inl x3, .inl x4, .inl x5, .inl y0] S) Q := zW_of zte (f := zf_744) rfl h
theorem zl_admits_p100 {d : Nat} {x3 : Int} {x4 : Int} {S : ZS} {Q : Option (Option ZV) → ZS → Prop} (h : zW (zb_admits_p100 ZL d x3 x4 S) Q) : zW (ZL d 745 [.inl x3, .inl x4] S) Q := zW_of zte (f := zf_745) rfl h
theorem zl_judgedException_p144 {d : Nat} {x1 : Int} {x3 : Int} {x4 : Int} {y0 : Int} {y1 : Int} {y2 : Int} {S : ZS} {Q : Option (Option ZV) → ZS → Prop} (h : zW (zb_judgedException_p144 ZL d x1 x3 x4 y0 y1 y2 S) Q) : zW (ZL d 746 [.inl x1, .inl x3, .inl x4, .inl y0, .inl y1, .inl y2] S) Q := zW_of zte (f := zf_746) rfl h
theorem zl_linked_vBefore {d : Nat} {x1 : Int} {x2 : Int} {x3 : Int} {S : ZS} {Q : Option (Option ZV) → ZS → Prop} (h : zW (zb_linked_vBefore ZL d x1 x2 x3 S) Q) : zW (ZL d 747 [.inl x1, .inl x2, .inl x3] S) Q := zW_of zte (f := zf_747) rfl h
theorem zl_linked_tBefore {d : Nat} {x1 : Int} {x2 : Int} {x3 : Int} {S : ZS} {Q : Option (Option ZV) → ZS → Prop} (h : zW (zb_linked_tBefore ZL d x1 x2 x3 S) Q) : zW (ZL d 748 [.inl x1, .inl x2, .inl x3] S) Q := zW_of zte (f := zf_748) rfl h
theorem zl_finish_p92 {d : Nat} {x2 : Int} {S : ZS} {Q : Option (Option ZV) → ZS → Prop} (h : zW (zb_finish_p92 ZL d x2 S) Q) : zW (ZL d 749 [.inl x2] S) Q := zW_of zte (f := zf_749) rfl h
theorem zl_finish_p183 {d : Nat} {x2 : Int} {S : ZS} {Q : Option (Option ZV) → ZS → Prop} (h : zW (zb_finish_p183 ZL d x2 S) Q) : zW (ZL d 750 [.inl x2] S) Q := zW_of zte (f := zf_750) rfl h
theorem zl_hasUnknown_p108 {d : Nat} {x3 : Int} {x5 : Int} {S : ZS} {Q : Option (Option ZV) → ZS → Prop} (h : zW (zb_hasUnknown_p108 ZL d x3 x5 S) Q) : zW (ZL d 751 [.inl x3, .inl x5] S) Q := zW_of zte (f := zf_751) rfl h
theorem zl_noteAll_p305 {d : Nat} {x1 : Int} {x2 : Int} {x3 : Int} {x4 : Int} {x5 : Int} {x6 : Int} {x7 : Int} {S : ZS} {Q : Option (Option ZV) → ZS → Prop} (h : zW (zb_noteAll_p305 ZL d x1 x2 x3 x4 x5 x6 x7 S) Q) : zW (ZL d 752 [.inl x1, .inl x2, .inl x3, .inl x4, .inl x5, .inl x6, .inl x7] S) Q := zW_of zte (f := zf_752) rfl h
theorem zl_noteAll_p241 {d : Nat} {x1 : Int} {x2 : Int} {x3 : Int} {x4 : Int} {x5 : Int} {x6 : Int} {S : ZS} {Q : Option (Option ZV) → ZS → Prop} (h : zW (zb_noteAll_p241 ZL d x1 x2 x3 x4 x5 x6 S) Q) : zW (ZL d 753 [.inl x1, .inl x2, .inl x3, .inl x4, .inl x5, .inl x6] S) Q := zW_of zte (f := zf_753) rfl h
theorem zl_lengthOf_next_p4 {d : Nat} {x2 : Int} {x3 : Int} {S : ZS} {Q : Option (Option ZV) → ZS → Prop} (h : zW (zb_lengthOf_next_p4 ZL d x2 x3 S) Q) : zW (ZL d 754 [.inl x2, .inl x3] S) Q := zW_of zte (f := zf_754) rfl h
theorem zl_noteAll_p114 {d : Nat} {x1 : Int} {x2 : Int} {x3 : Int} {x4 : Int} {x5 : Int} {x6 : Int} {x7 : Int} {x8 : Int} {S : ZS} {Q : Option (Option ZV) → ZS → Prop} (h : zW (zb_noteAll_p114 ZL d x1 x2 x3 x4 x5 x6 x7 x8 S) Q) : zW (ZL d 755 [.inl x1, .inl x2, .inl x3, .inl x4, .inl x5, .inl x6, .inl x7, .inl x8] S) Q := zW_of zte (f := zf_755) rfl h
theorem zl_usefulHere_p172 {d : Nat} {x1 : Int} {S : ZS} {Q : Option (Option ZV) → ZS → Prop} (h : zW (zb_usefulHere_p172 ZL d x1 S) Q) : zW (ZL d 756 [.inl x1] S) Q := zW_of zte (f := zf_756) rfl h
theorem zl_rowStep_p101 {d : Nat} {x1 : Int} {x2 : Int} {x3 : Int} {x4 : Int} {x5 : Int} {x6 : Int} {S : ZS} {Q : Option (Option ZV) → ZS → Prop} (h : zW (zb_rowStep_p101 ZL d x1 x2 x3 x4 x5 x6 S) Q) : zW (ZL d 757 [.inl x1, .inl x2, .inl x3, .inl x4, .inl x5, .inl x6] S) Q := zW_of zte (f := zf_757) rfl h
theorem zl_narrowed_p130 {d : Nat} {x1 : Int} {x2 : Int} {x3 : Int} {x4 : Int} {x5 : Int} {x6 : Int} {x7 : Int} {x9 : Int} {x10 : Int} {S : ZS} {Q : Option (Option ZV) → ZS → Prop} (h : zW (zb_narrowed_p130 ZL d x1 x2 x3 x4 x5 x6 x7 x9 x10 S) Q) : zW (ZL d 758 [.inl x1, .inl x2, .inl x3, .inl x4, .inl x5, .inl x6, .inl x7, .inl x9, .inl x10] S) Q := zW_of zte (f := zf_758) rfl h
theorem zl_runAll_p73 {d : Nat}  {S : ZS} {Q : Option (Option ZV) → ZS → Prop} (h : zW (zb_runAll_p73 ZL d  S) Q) : zW (ZL d 759 [] S) Q := zW_of zte (f := zf_759) rfl h
theorem zl_areEqual_p149 {d : Nat} {x5 : Int} {x6 : Int} {x8 : Int} {x10 : Int} {S : ZS} {Q : Option (Option ZV) → ZS → Prop} (h : zW (zb_areEqual_p149 ZL d x5 x6 x8 x10 S) Q) : zW (ZL d 760 [.inl x5, .inr (.inl x6), .inr (.inl x8), .inr (.inl x10)] S) Q := zW_of zte (f := zf_760) rfl h
theorem zl_areEqual_p226 {d : Nat} {x5 : Int} {S : ZS} {Q : Option (Option ZV) → ZS → Prop} (h : zW (zb_areEqual_p226 ZL d x5 S) Q) : zW (ZL d 761 [.inl x5] S) Q := zW_of zte (f := zf_761) rfl h
theorem zl_digitsOf_p87 {d : Nat} {x3 : Int} {x6 : Int} {x8 : Int} {S : ZS} {Q : Option (Option ZV) → ZS → Prop} (h : zW (zb_digitsOf_p87 ZL d x3 x6 x8 S) Q) : zW (ZL d 762 [.inr (.inl x3), .inr (.inl x6), .inr (.inl x8)] S) Q := zW_of zte (f := zf_762) rfl h
theorem zl_body_p113 {d : Nat} {x2 : Int} {x4 : Int} {S : ZS} {Q : Option (Option ZV) → ZS → Prop} (h : zW (zb_body_p113 ZL d x2 x4 S) Q) : zW (ZL d 763 [.inl x2, .inl x4] S) Q := zW_of zte (f := zf_763) rfl h
theorem zl_rowOf_p112 {d : Nat} {x3 : Int} {x4 : Int} {x5 : Int} {x6 : Int} {x7 : Int} {S : ZS} {Q : Option (Option ZV) → ZS → Prop} (h : zW (zb_rowOf_p112 ZL d x3 x4 x5 x6 x7 S) Q) : zW (ZL d 764 [.inl x3, .inl x4, .inl x5, .inl x6, .inl x7] S) Q := zW_of zte (f := zf_764) rfl h
theorem zl_rowOf_p75 {d : Nat} {x3 : Int} {x4 : Int} {x5 : Int} {x6 : Int} {x7 : Int} {S : ZS} {Q : Option (Option ZV) → ZS → Prop} (h : zW (zb_rowOf_p75 ZL d x3 x4 x5 x6 x7 S) Q) : zW (ZL d 765 [.inl x3, .inl x4, .inl x5, .inl x6, .inl x7] S) Q := zW_of zte (f := zf_765) rfl h
theorem zl_shapeOf_p104 {d : Nat} {x1 : Int} {x2 : Int} {x3 : Int} {x4 : Int} {S : ZS} {Q : Option (Option ZV) → ZS → Prop} (h : zW (zb_shapeOf_p104 ZL d x1 x2 x3 x4 S) Q) : zW (ZL d 766 [.inl x1, .inl x2, .inl x3, .inl x4] S) Q := zW_of zte (f := zf_766) rfl h
theorem zl_keepBound_p273 {d : Nat} {x2 : Int} {x4 : Int} {S : ZS} {Q : Option (Option ZV) → ZS → Prop} (h : zW (zb_keepBound_p273 ZL d x2 x4 S) Q) : zW (ZL d 767 [.inl x2, .inl x4] S) Q := zW_of zte (f := zf_767) rfl h
theorem zl_keepBound_p96 {d : Nat} {x1 : Int} {x2 : Int} {x3 : Int} {S : ZS} {Q : Option (Option ZV) → ZS → Prop} (h : zW (zb_keepBound_p96 ZL d x1 x2 x3 S) Q) : zW (ZL d 768 [.inl x1, .inl x2, .inl x3] S) Q := zW_of zte (f := zf_768) rfl h
theorem zl_keepInfix_p69 {d : Nat} {x1 : Int} {x2 : Int} {x3 : Int} {S : ZS} {Q : Option (Option ZV) → ZS → Prop} (h : zW (zb_keepInfix_p69 ZL d x1 x2 x3 S) Q) : zW (ZL d 769 [.inl x1, .inl x2, .inl x3] S) Q := zW_of zte (f := zf_769) rfl h
theorem zl_keepTypes_p98 {d : Nat} {x2 : Int} {x3 : Int} {x4 : Int} {x5 : Int} {x6 : Int} {x7 : Int} {S : ZS} {Q : Option (Option ZV) → ZS → Prop} (h : zW (zb_keepTypes_p98 ZL d x2 x3 x4 x5 x6 x7 S) Q) : zW (ZL d 770 [.inl x2, .inl x3, .inl x4, .inl x5, .inl x6, .inl x7] S) Q := zW_of zte (f := zf_770) rfl h
theorem zl_noteLines_p116 {d : Nat} {x1 : Int} {x2 : Int} {y0 : Int} {y1 : Int} {S : ZS} {Q : Option (Option ZV) → ZS → Prop} (h : zW (zb_noteLines_p116 ZL d x1 x2 y0 y1 S) Q) : zW (ZL d 771 [.inl x1, .inl x2, .inl y0, .inl y1] S) Q := zW_of zte (f := zf_771) rfl h
theorem zl_sayInt_p50 {d : Nat} {x3 : Int} {x5 : Int} {S : ZS} {Q : Option (Option ZV) → ZS → Prop} (h : zW (zb_sayInt_p50 ZL d x3 x5 S) Q) : zW (ZL d 772 [.inr (.inl x3), .inr (.inl x5)] S) Q := zW_of zte (f := zf_772) rfl h
theorem zl_sayRow_p102 {d : Nat} {x1 : Int} {x3 : Int} {x4 : Int} {x5 : Int} {x6 : Int} {S : ZS} {Q : Option (Option ZV) → ZS → Prop} (h : zW (zb_sayRow_p102 ZL d x1 x3 x4 x5 x6 S) Q) : zW (ZL d 773 [.inr (.inl x1), .inl x3, .inl x4, .inl x5, .inl x6] S) Q := zW_of zte (f := zf_773) rfl h
theorem zl_sayType_p93 {d : Nat} {x2 : Int} {x3 : Int} {x4 : Int} {x5 : Int} {S : ZS} {Q : Option (Option ZV) → ZS → Prop} (h : zW (zb_sayType_p93 ZL d x2 x3 x4 x5 S) Q) : zW (ZL d 774 [.inl x2, .inl x3, .inl x4, .inl x5] S) Q := zW_of zte (f := zf_774) rfl h
theorem zl_sayType_p108 {d : Nat} {x3 : Int} {x4 : Int} {x5 : Int} {y0 : Int} {S : ZS} {Q : Option (Option ZV) → ZS → Prop} (h : zW (zb_sayType_p108 ZL d x3 x4 x5 y0 S) Q) : zW (ZL d 775 [.inl x3, .inl x4, .inl x5, .inl y0] S) Q := zW_of zte (f := zf_775) rfl h
theorem zl_sayVariable_p54 {d : Nat} {x1 : Int} {x2 : Int} {S : ZS} {Q : Option (Option ZV) → ZS → Prop} (h : zW (zb_sayVariable_p54 ZL d x1 x2 S) Q) : zW (ZL d 776 [.inl x1, .inl x2] S) Q := zW_of zte (f := zf_776) rfl h
theorem zl_sayRowType_p128 {d : Nat} {x1 : Int} {x2 : Int} {x3 : Int} {x5 : Int} {y0 : Int} {S : ZS} {Q : Option (Option ZV) → ZS → Prop} (h : zW (zb_sayRowType_p128 ZL d x1 x2 x3 x5 y0 S) Q) : zW (ZL d 777 [.inl x1, .inl x2, .inl x3, .inl x5, .inl y0] S) Q := zW_of zte (f := zf_777) rfl h
theorem zl_sayRowType_p76 {d : Nat} {x1 : Int} {x2 : Int} {x3 : Int} {x5 : Int} {x6 : Int} {x7 : Int} {S : ZS} {Q : Option (Option ZV) → ZS → Prop} (h : zW (zb_sayRowType_p76 ZL d x1 x2 x3 x5 x6 x7 S) Q) : zW (ZL d 778 [.inl x1, .inl x2, .inl x3, .inl x5, .inl x6, .inl x7] S) Q := zW_of zte (f := zf_778) rfl h
theorem zl_sayMadeType_p71 {d : Nat} {x1 : Int} {x2 : Int} {x3 : Int} {S : ZS} {Q : Option (Option ZV) → ZS → Prop} (h : zW (zb_sayMadeType_p71 ZL d x1 x2 x3 S) Q) : zW (ZL d 779 [.inl x1, .inl x2, .inl x3] S) Q := zW_of zte (f := zf_779) rfl h
theorem zl_sayVars_p55 {d : Nat} {x1 : Int} {x2 : Int} {x3 : Int} {S : ZS} {Q : Option (Option ZV) → ZS → Prop} (h : zW (zb_sayVars_p55 ZL d x1 x2 x3 S) Q) : zW (ZL d 780 [.inl x1, .inl x2, .inl x3] S) Q := zW_of zte (f := zf_780) rfl h
theorem zl_sign0_p304 {d : Nat} {y0 : Int} {y1 : Int} {y2 : Int} {y3 : Int} {S : ZS} {Q : Option (Option ZV) → ZS → Prop} (h : zW (zb_sign0_p304 ZL d y0 y1 y2 y3 S) Q) : zW (ZL d 781 [.inl y0, .inl y1, .inl y2, .inl y3] S) Q := zW_of zte (f := zf_781) rfl h
theorem zl_gaps_p174 {d : Nat} {x1 : Int} {x2 : Int} {S : ZS} {Q : Option (Option ZV) → ZS → Prop} (h : zW (zb_gaps_p174 ZL d x1 x2 S) Q) : zW (ZL d 782 [.inl x1, .inl x2] S) Q := zW_of zte (f := zf_782) rfl h
theorem zl_nameAt_text_p193 {d : Nat} {x2 : Int} {x3 : Int} {x5 : Int} {S : ZS} {Q : Option (Option ZV) → ZS → Prop} (h : zW (zb_nameAt_text_p193 ZL d x2 x3 x5 S) Q) : zW (ZL d 783 [.inl x2, .inl x3, .inl x5] S) Q := zW_of zte (f := zf_783) rfl h
theorem zl_nameAt_text_p72 {d : Nat} {x2 : Int} {x3 : Int} {x4 : Int} {x5 : Int} {x6 : Int} {x7 : Int} {S : ZS} {Q : Option (Option ZV) → ZS → Prop} (h : zW (zb_nameAt_text_p72 ZL d x2 x3 x4 x5 x6 x7 S) Q) : zW (ZL d 784 [.inl x2, .inl x3, .inl x4, .inl x5, .inl x6, .inl x7] S) Q := zW_of zte (f := zf_784) rfl h
theorem zl_readInt_p121 {d : Nat} {x1 : Int} {y0 : Int} {S : ZS} {Q : Option (Option ZV) → ZS → Prop} (h : zW (zb_readInt_p121 ZL d x1 y0 S) Q) : zW (ZL d 785 [.inl x1, .inr (.inl y0)] S) Q := zW_of zte (f := zf_785) rfl h
theorem zl_readString_p180 {d : Nat} {x1 : Int} {y0 : Int} {S : ZS} {Q : Option (Option ZV) → ZS → Prop} (h : zW (zb_readString_p180 ZL d x1 y0 S) Q) : zW (ZL d 786 [.inl x1, .inl y0] S) Q := zW_of zte (f := zf_786) rfl h
theorem zl_infixed_p105 {d : Nat} {x1 : Int} {x2 : Int} {x3 : Int} {x5 : Int} {S : ZS} {Q : Option (Option ZV) → ZS → Prop} (h : zW (zb_infixed_p105 ZL d x1 x2 x3 x5 S) Q) : zW (ZL d 787 [.inl x1, .inl x2, .inl x3, .inl x5] S) Q := zW_of zte (f := zf_787) rfl h
theorem zl_clause_p208 {d : Nat} {x1 : Int} {x4 : Int} {x5 : Int} {x6 : Int} {y0 : Int} {S : ZS} {Q : Option (Option ZV) → ZS → Prop} (h : zW (zb_clause_p208 ZL d x1 x4 x5 x6 y0 S) Q) : zW (ZL d 788 [.inl x1, .inl x4, .inl x5, .inl x6, .inl y0] S) Q := zW_of zte (f := zf_788) rfl h
theorem zl_clause_p107 {d : Nat} {x1 : Int} {x4 : Int} {x5 : Int} {x6 : Int} {x7 : Int} {S : ZS} {Q : Option (Option ZV) → ZS → Prop} (h : zW (zb_clause_p107 ZL d x1 x4 x5 x6 x7 S) Q) : zW (ZL d 789 [.inl x1, .inl x4, .inl x5, .inl x6, .inl x7] S) Q := zW_of zte (f := zf_789) rfl h
theorem zl_constructors_p92 {d : Nat} {x1 : Int} {x7 : Int} {S : ZS} {Q : Option (Option ZV) → ZS → Prop} (h : zW (zb_constructors_p92 ZL d x1 x7 S) Q) : zW (ZL d 790 [.inl x1, .inl x7] S) Q := zW_of zte (f := zf_790) rfl h
theorem zl_readSign_p200 {d : Nat} {x1 : Int} {x2 : Int} {x3 : Int} {x4 : Int} {x5 : Int} {x6 : Int} {x7 : Int} {x8 : Int} {S : ZS} {Q : Option (Option ZV) → ZS → Prop} (h : zW (zb_readSign_p200 ZL d x1 x2 x3 x4 x5 x6 x7 x8 S) Q) : zW (ZL d 791 [.inl x1, .inl x2, .inl x3, .inl x4, .inl x5, .inl x6, .inl x7, .inl x8] S) Q := zW_of zte (f := zf_791) rfl h
theorem zl_readSign_p256 {d : Nat} {x2 : Int} {x3 : Int} {x5 : Int} {y0 : Int} {S : ZS} {Q : Option (Option ZV) → ZS → Prop} (h : zW (zb_readSign_p256 ZL d x2 x3 x5 y0 S) Q) : zW (ZL d 792 [.inl x2, .inl x3, .inl x5, .inl y0] S) Q := zW_of zte (f := zf_792) rfl h
theorem zl_copied_p137 {d : Nat} {x1 : Int} {x3 : Int} {x5 : Int} {x6 : Int} {S : ZS} {Q : Option (Option ZV) → ZS → Prop} (h : zW (zb_copied_p137 ZL d x1 x3 x5 x6 S) Q) : zW (ZL d 793 [.inl x1, .inl x3, .inl x5, .inl x6] S) Q := zW_of zte (f := zf_793) rfl h
theorem zl_merge_p94 {d : Nat} {x3 : Int} {y0 : Int} {S : ZS} {Q : Option (Option ZV) → ZS → Prop} (h : zW (zb_merge_p94 ZL d x3 y0 S) Q) : zW (ZL d 794 [.inl x3, .inl y0] S) Q := zW_of zte (f := zf_794) rfl h
theorem zl_mergeRows_p213 {d : Nat} {x2 : Int} {x3 : Int} {x4 : Int} {y0 : Int} {y1 : Int} {S : ZS} {Q : Option (Option ZV) → ZS → Prop} (h : zW (zb_mergeRows_p213 ZL d x2 x3 x4 y0 y1 S) Q) : zW (ZL d 795 [.inl x2, .inl x3, .inl x4, .inl y0, .inl y1] S) Q := zW_of zte (f := zf_795) rfl h
theorem zl_allFields_p54 {d : Nat} {x3 : Int} {x4 : Int} {x5 : Int} {x6 : Int} {x7 : Int} {S : ZS} {Q : Option (Option ZV) → ZS → Prop} (h : zW (zb_allFields_p54 ZL d x3 x4 x5 x6 x7 S) Q) : zW (ZL d 796 [.inl x3, .inl x4, .inl x5, .inl x6, .inl x7] S) Q := zW_of zte (f := zf_796) rfl h
theorem zl_through_p210 {d : Nat} {x5 : Int} {S : ZS} {Q : Option (Option ZV) → ZS → Prop} (h : zW (zb_through_p210 ZL d x5 S) Q) : zW (ZL d 797 [.inl x5] S) Q := zW_of zte (f := zf_797) rfl h
theorem zl_markRim_p106 {d : Nat} {x3 : Int} {S : ZS} {Q : Option (Option ZV) → ZS → Prop} (h : zW (zb_markRim_p106 ZL d x3 S) Q) : zW (ZL d 798 [.inl x3] S) Q := zW_of zte (f := zf_798) rfl h
theorem zl_judgedClause_p293 {d : Nat} {x2 : Int} {x5 : Int} {x8 : Int} {x13 : Int} {S : ZS} {Q : Option (Option ZV) → ZS → Prop} (h : zW (zb_judgedClause_p293 ZL d x2 x5 x8 x13 S) Q) : zW (ZL d 799 [.inl x2, .inl x5, .inl x8, .inl x13] S) Q := zW_of zte (f := zf_799) rfl h
theorem zl_listed_p171 {d : Nat} {x2 : Int} {x4 : Int} {x5 : Int} {x7 : Int} {S : ZS} {Q : Option (Option ZV) → ZS → Prop} (h : zW (zb_listed_p171 ZL d x2 x4 x5 x7 S) Q) : zW (ZL d 800 [.inl x2, .inl x4, .inl x5, .inl x7] S) Q := zW_of zte (f := zf_800) rfl h
theorem zl_judgedData_p306 {d : Nat} {x1 : Int} {x2 : Int} {x3 : Int} {x4 : Int} {x6 : Int} {x7 : Int} {S : ZS} {Q : Option (Option ZV) → ZS → Prop} (h : zW (zb_judgedData_p306 ZL d x1 x2 x3 x4 x6 x7 S) Q) : zW (ZL d 801 [.inl x1, .inl x2, .inl x3, .inl x4, .inl x6, .inl x7] S) Q := zW_of zte (f := zf_801) rfl h
theorem zl_judgedCons_p228 {d : Nat} {x2 : Int} {x3 : Int} {x4 : Int} {x5 : Int} {x6 : Int} {x7 : Int} {x8 : Int} {x9 : Int} {S : ZS} {Q : Option (Option ZV) → ZS → Prop} (h : zW (zb_judgedCons_p228 ZL d x2 x3 x4 x5 x6 x7 x8 x9 S) Q) : zW (ZL d 802 [.inl x2, .inl x3, .inl x4, .inl x5, .inl x6, .inl x7, .inl x8, .inl x9] S) Q := zW_of zte (f := zf_802) rfl h
theorem zl_admits_p135 {d : Nat} {x3 : Int} {x5 : Int} {S : ZS} {Q : Option (Option ZV) → ZS → Prop} (h : zW (zb_admits_p135 ZL d x3 x5 S) Q) : zW (ZL d 803 [.inl x3, .inl x5] S) Q := zW_of zte (f := zf_803) rfl h
theorem zl_judgedException_p195 {d : Nat} {x1 : Int} {x4 : Int} {y0 : Int} {y1 : Int} {y2 : Int} {S : ZS} {Q : Option (Option ZV) → ZS → Prop} (h : zW (zb_judgedException_p195 ZL d x1 x4 y0 y1 y2 S) Q) : zW (ZL d 804 [.inl x1, .inl x4, .inl y0, .inl y1, .inl y2] S) Q := zW_of zte (f := zf_804) rfl h
theorem zl_linked_vBefore_p10 {d : Nat} {x1 : Int} {x2 : Int} {x3 : Int} {x4 : Int} {S : ZS} {Q : Option (Option ZV) → ZS → Prop} (h : zW (zb_linked_vBefore_p10 ZL d x1 x2 x3 x4 S) Q) : zW (ZL d 805 [.inl x1, .inl x2, .inl x3, .inl x4] S) Q := zW_of zte (f := zf_805) rfl h
theorem zl_linked_tBefore_p10 {d : Nat} {x1 : Int} {x2 : Int} {x3 : Int} {x4 : Int} {S : ZS} {Q : Option (Option ZV) → ZS → Prop} (h : zW (zb_linked_tBefore_p10 ZL d x1 x2 x3 x4 S) Q) : zW (ZL d 806 [.inl x1, .inl x2, .inl x3, .inl x4] S) Q := zW_of zte (f := zf_806) rfl h
theorem zl_noteAll_p372 {d : Nat} {x1 : Int} {x2 : Int} {x3 : Int} {y0 : Int} {S : ZS} {Q : Option (Option ZV) → ZS → Prop} (h : zW (zb_noteAll_p372 ZL d x1 x2 x3 y0 S) Q) : zW (ZL d 807 [.inl x1, .inl x2, .inl x3, .inl y0] S) Q := zW_of zte (f := zf_807) rfl h
theorem zl_rowStep_p145 {d : Nat} {x1 : Int} {x2 : Int} {x3 : Int} {x4 : Int} {x6 : Int} {S : ZS} {Q : Option (Option ZV) → ZS → Prop} (h : zW (zb_rowStep_p145 ZL d x1 x2 x3 x4 x6 S) Q) : zW (ZL d 808 [.inl x1, .inl x2, .inl x3, .inl x4, .inl x6] S) Q := zW_of zte (f := zf_808) rfl h
theorem zl_areEqual_p182 {d : Nat} {x5 : Int} {S : ZS} {Q : Option (Option ZV) → ZS → Prop} (h : zW (zb_areEqual_p182 ZL d x5 S) Q) : zW (ZL d 809 [.inl x5] S) Q := zW_of zte (f := zf_809) rfl h
theorem zl_keepBound_p329 {d : Nat} {x3 : Int} {x4 : Int} {S : ZS} {Q : Option (Option ZV) → ZS → Prop} (h : zW (zb_keepBound_p329 ZL d x3 x4 S) Q) : zW (ZL d 810 [.inl x3, .inl x4] S) Q := zW_of zte (f := zf_810) rfl h
theorem zl_sayRow_p124 {d : Nat} {x1 : Int} {x3 : Int} {x4 : Int} {x5 : Int} {x6 : Int} {S : ZS} {Q : Option (Option ZV) → ZS → Prop} (h : zW (zb_sayRow_p124 ZL d x1 x3 x4 x5 x6 S) Q) : zW (ZL d 811 [.inr (.inl x1), .inl x3, .inl x4, .inl x5, .inl x6] S) Q := zW_of zte (f := zf_811) rfl h
theorem zl_sayType_p121 {d : Nat} {x3 : Int} {x4 : Int} {x5 : Int} {x6 : Int} {S : ZS} {Q : Option (Option ZV) → ZS → Prop} (h : zW (zb_sayType_p121 ZL d x3 x4 x5 x6 S) Q) : zW (ZL d 812 [.inl x3, .inl x4, .inl x5, .inl x6] S) Q := zW_of zte (f := zf_812) rfl h
theorem zl_sayVariable_p141 {d : Nat} {x2 : Int} {S : ZS} {Q : Option (Option ZV) → ZS → Prop} (h : zW (zb_sayVariable_p141 ZL d x2 S) Q) : zW (ZL d 813 [.inl x2] S) Q := zW_of zte (f := zf_813) rfl h
theorem zl_sayVariable_p70 {d : Nat} {x2 : Int} {x3 : Int} {x4 : Int} {S : ZS} {Q : Option (Option ZV) → ZS → Prop} (h : zW (zb_sayVariable_p70 ZL d x2 x3 x4 S) Q) : zW (ZL d 814 [.inl x2, .inl x3, .inl x4] S) Q := zW_of zte (f := zf_814) rfl h
theorem zl_sayRowType_p148 {d : Nat} {x1 : Int} {x4 : Int} {x5 : Int} {S : ZS} {Q : Option (Option ZV) → ZS → Prop} (h : zW (zb_sayRowType_p148 ZL d x1 x4 x5 S) Q) : zW (ZL d 815 [.inl x1, .inl x4, .inl x5] S) Q := zW_of zte (f := zf_815) rfl h
theorem zl_sayRowType_p101 {d : Nat} {x1 : Int} {x2 : Int} {x3 : Int} {x6 : Int} {S : ZS} {Q : Option (Option ZV) → ZS → Prop} (h : zW (zb_sayRowType_p101 ZL d x1 x2 x3 x6 S) Q) : zW (ZL d 816 [.inl x1, .inl x2, .inl x3, .inl x6] S) Q := zW_of zte (f := zf_816) rfl h
theorem zl_nameAt_text_p120 {d : Nat} {x2 : Int} {x3 : Int} {x4 : Int} {x5 : Int} {x6 : Int} {S : ZS} {Q : Option (Option ZV) → ZS → Prop} (h : zW (zb_nameAt_text_p120 ZL d x2 x3 x4 x5 x6 S) Q) : zW (ZL d 817 [.inl x2, .inl x3, .inl x4, .inl x5, .inl x6] S) Q := zW_of zte (f := zf_817) rfl h
theorem zl_infixed_p146 {d : Nat} {x1 : Int} {x2 : Int} {x3 : Int} {y0 : Int} {S : ZS} {Q : Option (Option ZV) → ZS → Prop} (h : zW (zb_infixed_p146 ZL d x1 x2 x3 y0 S) Q) : zW (ZL d 818 [.inl x1, .inl x2, .inl x3, .inl y0] S) Q := zW_of zte (f := zf_818) rfl h
theorem zl_mergeRows_p223 {d : Nat} {x2 : Int} {S : ZS} {Q : Option (Option ZV) → ZS → Prop} (h : zW (zb_mergeRows_p223 ZL d x2 S) Q) : zW (ZL d 819 [.inl x2] S) Q := zW_of zte (f := zf_819) rfl h
theorem zl_allFields_p93 {d : Nat} {x3 : Int} {x4 : Int} {x5 : Int} {x6 : Int} {x7 : Int} {S : ZS} {Q : Option (Option ZV) → ZS → Prop} (h : zW (zb_allFields_p93 ZL d x3 x4 x5 x6 x7 S) Q) : zW (ZL d 820 [.inl x3, .inl x4, .inl x5, .inl x6, .inl x7] S) Q := zW_of zte (f := zf_820) rfl h
theorem zl_markRim_p147 {d : Nat} {x3 : Int} {x4 : Int} {S : ZS} {Q : Option (Option ZV) → ZS → Prop} (h : zW (zb_markRim_p147 ZL d x3 x4 S) Q) : zW (ZL d 821 [.inl x3, .inl x4] S) Q := zW_of zte (f := zf_821) rfl h
theorem zl_judgedData_p429 {d : Nat} {x8 : Int} {S : ZS} {Q : Option (Option ZV) → ZS → Prop} (h : zW (zb_judgedData_p429 ZL d x8 S) Q) : zW (ZL d 822 [.inl x8] S) Q := zW_of zte (f := zf_822) rfl h
theorem zl_judgedData_p318 {d : Nat} {x1 : Int} {x2 : Int} {x3 : Int} {x4 : Int} {x6 : Int} {x7 : Int} {x8 : Int} {S : ZS} {Q : Option (Option ZV) → ZS → Prop} (h : zW (zb_judgedData_p318 ZL d x1 x2 x3 x4 x6 x7 x8 S) Q) : zW (ZL d 823 [.inl x1, .inl x2, .inl x3, .inl x4, .inl x6, .inl x7, .inl x8] S) Q := zW_of zte (f := zf_823) rfl h
theorem zl_judgedCons_p355 {d : Nat} {x2 : Int} {x3 : Int} {x4 : Int} {x5 : Int} {x6 : Int} {x9 : Int} {x10 : Int} {y0 : Int} {y1 : Int} {y2 : Int} {S : ZS} {Q : Option (Option ZV) → ZS → Prop} (h : zW (zb_judgedCons_p355 ZL d x2 x3 x4 x5 x6 x9 x10 y0 y1 y2 S) Q) : zW (ZL d 824 [.inl x2, .inl x3, .inl x4, .inl x5, .inl x6, .inl x9, .inl x10, .inl y0, .inl y1, .inl y2] S) Q := zW_of zte (f := zf_824) rfl h
theorem zl_judgedCons_p277 {d : Nat} {x2 : Int} {x3 : Int} {x4 : Int} {x5 : Int} {x6 : Int} {x7 : Int} {x9 : Int} {x10 : Int} {S : ZS} {Q : Option (Option ZV) → ZS → Prop} (h : zW (zb_judgedCons_p277 ZL d x2 x3 x4 x5 x6 x7 x9 x10 S) Q) : zW (ZL d 825 [.inl x2, .inl x3, .inl x4, .inl x5, .inl x6, .inl x7, .inl x9, .inl x10] S) Q := zW_of zte (f := zf_825) rfl h
theorem zl_sayType_p189 {d : Nat} {x3 : Int} {x6 : Int} {x7 : Int} {x8 : Int} {S : ZS} {Q : Option (Option ZV) → ZS → Prop} (h : zW (zb_sayType_p189 ZL d x3 x6 x7 x8 S) Q) : zW (ZL d 826 [.inl x3, .inl x6, .inl x7, .inl x8] S) Q := zW_of zte (f := zf_826) rfl h
theorem zl_infixed_p158 {d : Nat} {x1 : Int} {x2 : Int} {x3 : Int} {x4 : Int} {S : ZS} {Q : Option (Option ZV) → ZS → Prop} (h : zW (zb_infixed_p158 ZL d x1 x2 x3 x4 S) Q) : zW (ZL d 827 [.inl x1, .inl x2, .inl x3, .inl x4] S) Q := zW_of zte (f := zf_827) rfl h
theorem zl_allFields_p155 {d : Nat} {x3 : Int} {x4 : Int} {x5 : Int} {x6 : Int} {x7 : Int} {S : ZS} {Q : Option (Option ZV) → ZS → Prop} (h : zW (zb_allFields_p155 ZL d x3 x4 x5 x6 x7 S) Q) : zW (ZL d 828 [.inl x3, .inl x4, .inl x5, .inl x6, .inl x7] S) Q := zW_of zte (f := zf_828) rfl h
theorem zl_allFields_p132 {d : Nat} {x3 : Int} {x4 : Int} {x5 : Int} {x6 : Int} {x7 : Int} {y0 : Int} {S : ZS} {Q : Option (Option ZV) → ZS → Prop} (h : zW (zb_allFields_p132 ZL d x3 x4 x5 x6 x7 y0 S) Q) : zW (ZL d 829 [.inl x3, .inl x4, .inl x5, .inl x6, .inl x7, .inl y0] S) Q := zW_of zte (f := zf_829) rfl h
theorem zl_judgedCons_p392 {d : Nat} {x2 : Int} {x3 : Int} {x4 : Int} {x5 : Int} {x10 : Int} {y0 : Int} {y1 : Int} {S : ZS} {Q : Option (Option ZV) → ZS → Prop} (h : zW (zb_judgedCons_p392 ZL d x2 x3 x4 x5 x10 y0 y1 S) Q) : zW (ZL d 830 [.inl x2, .inl x3, .inl x4, .inl x5, .inl x10, .inl y0, .inl y1] S) Q := zW_of zte (f := zf_830) rfl h
theorem zl_sayType_p213 {d : Nat} {x3 : Int} {x6 : Int} {x7 : Int} {x8 : Int} {S : ZS} {Q : Option (Option ZV) → ZS → Prop} (h : zW (zb_sayType_p213 ZL d x3 x6 x7 x8 S) Q) : zW (ZL d 831 [.inl x3, .inl x6, .inl x7, .inl x8] S) Q := zW_of zte (f := zf_831) rfl h
theorem zl_allFields_p199 {d : Nat} {x3 : Int} {x4 : Int} {x6 : Int} {x7 : Int} {x8 : Int} {S : ZS} {Q : Option (Option ZV) → ZS → Prop} (h : zW (zb_allFields_p199 ZL d x3 x4 x6 x7 x8 S) Q) : zW (ZL d 832 [.inl x3, .inl x4, .inl x6, .inl x7, .inl x8] S) Q := zW_of zte (f := zf_832) rfl h
theorem zl_allFields_p148 {d : Nat} {x3 : Int} {x4 : Int} {x5 : Int} {x6 : Int} {x7 : Int} {y0 : Int} {y2 : Int} {S : ZS} {Q : Option (Option ZV) → ZS → Prop} (h : zW (zb_allFields_p148 ZL d x3 x4 x5 x6 x7 y0 y2 S) Q) : zW (ZL d 833 [.inl x3, .inl x4, .inl x5, .inl x6, .inl x7, .inl y0, .inl y2] S) Q := zW_of zte (f := zf_833) rfl h
theorem zl_sayType_p233 {d : Nat} {x3 : Int} {x6 : Int} {x7 : Int} {x8 : Int} {S : ZS} {Q : Option (Option ZV) → ZS → Prop} (h : zW (zb_sayType_p233 ZL d x3 x6 x7 x8 S) Q) : zW (ZL d 834 [.inl x3, .inl x6, .inl x7, .inl x8] S) Q := zW_of zte (f := zf_834) rfl h
