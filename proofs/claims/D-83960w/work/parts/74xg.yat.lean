set_option maxRecDepth 100000
/-! THE HOUSE'S PARSER: what stands alone in expressions (printed by gen/dsl/p74xg.py) -/
theorem tAt_con {F : List (List Int × Int × Int)} {c : Tok} (h : tAt F c) (h20 : ¬ tIs c 20) (h1 : c.1 ≠ 1) (h43 : ¬ tIs c 43) (h32 : ¬ tIs c 32) (h28 : ¬ tIs c 28) (h30 : ¬ tIs c 30) (h16 : ¬ tIs c 16) : tCon c := by
  rcases h with z | z | z | z | z | z | z | z
  · exact z
  · exact absurd z.1 h1
  · exact absurd z h20
  · exact absurd z h43
  · exact absurd z h32
  · exact absurd z h28
  · exact absurd z h30
  · exact absurd z h16
section YAt
variable {C : YC} {B P O : Nat → Prop} {X : Nat → Nat} {t : List Int} {Γ : Gm} {H H' : YS} {σ σ1 : Ps} {η η1 : Et} {M : List (Gt × Option Nat)} {g h g' h' : Int} {a e c s d dp cap : Nat} {F : List (List Int × Int × Int)} {Q : Option (Option ZV) → YS → Prop} {r : (Int × Nat) ⊕ (Gt × Ps)} {f : Ps → PR} {θ τ : Gt} {w : Option Nat} {l : List Gt} {tk : Tok} {R : PX}
theorem y_atE {n : Nat} (hbr : YCf C B X t (nE 28 (gBrE t (sP t n))) 151 3 ho okEx) (hro : YCf C B X t (nE 32 (gRwE t (sP t n))) 152 3 ho okEx) (hli : YCf C B X t (nE 30 (gLiE t (sP t n))) 153 3 ho okEx) (hlet : YCf C B X t (nE 16 (gLet t (sP t n))) 154 3 ho okEx) : YCf C B X t (gAt t (sP t n)) 149 4 ho okEx := by
  intro Γ H σ η M g h d Q r S hu hg hh hd he her hk
  have d40 := dep_40 S
  have vl := SS_vl S
  unfold gAt at he
  refine yl_Parser_at ?_
  unfold yb_Parser_at
  refine zW_isAt (by omega) S (fun u1 => ?_) (fun u1 => ?_)
  · refine zW_f (by decide) ?_
    rw [if_neg (fun z => z u1)] at he
    refine zW_plc S ?_
    refine zW_let ?_
    refine zW_tis 28 115 (by decide) (by omega) S (fun u2 => ?_) (fun u2 => ?_)
    · rw [if_neg (tIs_con u2), if_pos u2] at he
      have he := nE_he (f := gBrE t (sP t n)) u2 he
      refine zW_sub hbr (by omega) S hu (by omega) (by omega) he her (fun t3 σ3 H3 η3 ro3 S3 o3 q3 e3 he => ?_)
      have m3 := q3.2.2.1
      have d3 := dep_le q3
      have vn3 := Er_len e3
      have vd3 := q3.1
      exact zW_rQ (hk _ _ _ _ _ (Option.some.inj he).symm (SS_mono S3 (by omega) (by omega)) o3 (Qx_to q3 (by omega) (by omega)) e3)
    · skip
      refine zW_tis 32 114 (by decide) (by omega) S (fun u4 => ?_) (fun u4 => ?_)
      · rw [if_neg (tIs_con u4), if_neg u2, if_pos u4] at he
        have he := nE_he (f := gRwE t (sP t n)) u4 he
        refine zW_sub hro (by omega) S hu (by omega) (by omega) he her (fun t5 σ5 H5 η5 ro5 S5 o5 q5 e5 he => ?_)
        have m5 := q5.2.2.1
        have d5 := dep_le q5
        have vn5 := Er_len e5
        have vd5 := q5.1
        exact zW_rQ (hk _ _ _ _ _ (Option.some.inj he).symm (SS_mono S5 (by omega) (by omega)) o5 (Qx_to q5 (by omega) (by omega)) e5)
      · skip
        refine zW_tis 30 116 (by decide) (by omega) S (fun u6 => ?_) (fun u6 => ?_)
        · rw [if_neg (tIs_con u6), if_neg u2, if_neg u4, if_pos u6] at he
          have he := nE_he (f := gLiE t (sP t n)) u6 he
          refine zW_sub hli (by omega) S hu (by omega) (by omega) he her (fun t7 σ7 H7 η7 ro7 S7 o7 q7 e7 he => ?_)
          have m7 := q7.2.2.1
          have d7 := dep_le q7
          have vn7 := Er_len e7
          have vd7 := q7.1
          exact zW_rQ (hk _ _ _ _ _ (Option.some.inj he).symm (SS_mono S7 (by omega) (by omega)) o7 (Qx_to q7 (by omega) (by omega)) e7)
        · skip
          refine zW_tis 16 139 (by decide) (by omega) S (fun u8 => ?_) (fun u8 => ?_)
          · rw [if_neg (tIs_con u8), if_neg u2, if_neg u4, if_neg u6, if_pos u8] at he
            have he := nE_he (f := gLet t (sP t n)) u8 he
            refine zW_sub hlet (by omega) S hu (by omega) (by omega) he her (fun t9 σ9 H9 η9 ro9 S9 o9 q9 e9 he => ?_)
            have m9 := q9.2.2.1
            have d9 := dep_le q9
            have vn9 := Er_len e9
            have vd9 := q9.1
            exact zW_rQ (hk _ _ _ _ _ (Option.some.inj he).symm (SS_mono S9 (by omega) (by omega)) o9 (Qx_to q9 (by omega) (by omega)) e9)
          · skip
            have he : (if pIs σ 43 then pT (pPass t σ) fun σ1 => pLab t σ1 fun l σ2 => pR (gn 4 [[((pc σ).2.1 : Int), ((pc σ).2.1 : Int)], l] []) σ2 else if tCon (pc σ) then gConst t 90 σ else pOpn t σ fun q b σ1 => pR (gn 3 [[((pc σ).2.1 : Int), (q : Int)], b] []) σ1) = some r := by
              rw [← he]
              by_cases hc : tCon (pc σ)
              · rw [if_neg (fun z => tIs_con z hc), if_pos hc, if_pos hc]
              · rw [if_neg hc, if_neg hc, if_neg u2, if_neg u4, if_neg u6, if_neg u8]
            refine zW_takes 43 138 (by decide) (by omega) S (by omega) (by omega) he her (fun u10 he => ?_) (fun u10 σ10 H10 η10 S10 p10 w10 he => ?_)
            · refine zW_isNm (by omega) S (fun u11 => ?_) (fun u11 => ?_)
              · refine zW_f (by decide) ?_
                rw [if_neg (tNm_con u11)] at he
                unfold pOpn at he
                refine yl_Parser_at_p138 ?_
                unfold yb_Parser_at_p138
                refine zW_takesK 20 112 (by decide) (by omega) S (by omega) (by omega) he her (fun u12 he => ?_) (fun u12 σ12 H12 η12 S12 p12 w12 he => ?_)
                · refine zW_let ?_
                  refine zW_plc S ?_
                  refine zW_let ?_
                  have S13 := SS_new (kd := 51) (n := 4) (p := []) S (by decide) trivial
                  refine zW_new ?_
                  rw [if_neg (show ¬ (51 : Nat) = 3 by decide)]
                  refine zW_t rfl ?_
                  refine zW_name (by omega) S13 (by omega) (by omega) he her (fun k14 x14 σ14 H14 η14 S14 p14 w14 he => ?_)
                  have q14 := Qx_p p14
                  have m14 := q14.2.2.1
                  have d14 := dep_le q14
                  have vn14 := congrArg List.length w14.2
                  have vd14 := q14.1
                  have S15 := SS_pk 2 [1, 0] rfl rfl S14
                  refine m_Use (by omega) S15 (fun H16 S16 => ?_)
                  refine zW_rQ (hk (gn 3 [[((pc σ).2.1 : Int), ((pc σ).2.1 : Int)], (pc σ).2.2.1] []) _ _ _ _ (Option.some.inj he).symm ?_ ?_ (Qx_to q14 (by omega) (by omega)) (Er_n (by decide) (Er_1 w14)))
                  · rw [ho_gn]; exact SS_mono S16 (by omega) (by omega)
                  · exact Or.inl ⟨(by decide : 3 ≤ 3), (by decide : 3 ≤ 20)⟩
                · have q12 := Qx_p p12
                  have m12 := q12.2.2.1
                  have d12 := dep_le q12
                  have vn12 := congrArg List.length w12.2
                  have vd12 := q12.1
                  refine zW_let ?_
                  refine zW_plc S12 ?_
                  refine zW_let ?_
                  have S17 := SS_new (kd := 51) (n := 4) (p := []) S12 (by decide) trivial
                  refine zW_new ?_
                  rw [if_neg (show ¬ (51 : Nat) = 3 by decide)]
                  refine zW_f (by decide) ?_
                  refine zW_any (by omega) S17 (by omega) (by omega) he her (fun k18 x18 σ18 H18 η18 S18 p18 w18 he => ?_)
                  have q18 := Qx_p p18
                  have m18 := q18.2.2.1
                  have d18 := dep_le q18
                  have vn18 := congrArg List.length w18.2
                  have vd18 := q18.1
                  have S19 := SS_pk 2 [1, 0] rfl rfl S18
                  refine m_Use (by omega) S19 (fun H20 S20 => ?_)
                  refine zW_rQ (hk (gn 3 [[((pc σ).2.1 : Int), ((pc σ12).2.1 : Int)], (pc σ12).2.2.1] []) _ _ _ _ (Option.some.inj he).symm ?_ ?_ (Qx_to (Qx_t q12 q18) (by omega) (by omega)) (Er_n (by decide) (Er_1 ⟨w18.1.trans w12.1, w18.2.trans w12.2⟩)))
                  · rw [ho_gn]; exact SS_mono S20 (by omega) (by omega)
                  · exact Or.inl ⟨(by decide : 3 ≤ 3), (by decide : 3 ≤ 20)⟩
              · refine zW_t rfl ?_
                refine zW_tis 20 112 (by decide) (by omega) S (fun u21 => ?_) (fun u21 => ?_)
                · rw [if_neg (tIs_con u21)] at he
                  unfold pOpn at he
                  refine yl_Parser_at_p138 ?_
                  unfold yb_Parser_at_p138
                  refine zW_takesK 20 112 (by decide) (by omega) S (by omega) (by omega) he her (fun u22 => absurd u21 u22) (fun u22 σ22 H22 η22 S22 p22 w22 he => ?_)
                  have q22 := Qx_p p22
                  have m22 := q22.2.2.1
                  have d22 := dep_le q22
                  have vn22 := congrArg List.length w22.2
                  have vd22 := q22.1
                  refine zW_let ?_
                  refine zW_plc S22 ?_
                  refine zW_let ?_
                  have S23 := SS_new (kd := 51) (n := 4) (p := []) S22 (by decide) trivial
                  refine zW_new ?_
                  rw [if_neg (show ¬ (51 : Nat) = 3 by decide)]
                  refine zW_f (by decide) ?_
                  refine zW_any (by omega) S23 (by omega) (by omega) he her (fun k24 x24 σ24 H24 η24 S24 p24 w24 he => ?_)
                  have q24 := Qx_p p24
                  have m24 := q24.2.2.1
                  have d24 := dep_le q24
                  have vn24 := congrArg List.length w24.2
                  have vd24 := q24.1
                  have S25 := SS_pk 2 [1, 0] rfl rfl S24
                  refine m_Use (by omega) S25 (fun H26 S26 => ?_)
                  refine zW_rQ (hk (gn 3 [[((pc σ).2.1 : Int), ((pc σ22).2.1 : Int)], (pc σ22).2.2.1] []) _ _ _ _ (Option.some.inj he).symm ?_ ?_ (Qx_to (Qx_t q22 q24) (by omega) (by omega)) (Er_n (by decide) (Er_1 ⟨w24.1.trans w22.1, w24.2.trans w22.2⟩)))
                  · rw [ho_gn]; exact SS_mono S26 (by omega) (by omega)
                  · exact Or.inl ⟨(by decide : 3 ≤ 3), (by decide : 3 ≤ 20)⟩
                · have hc := tAt_con u1 u21 u11 u10 u4 u2 u6 u8
                  rw [if_pos hc] at he
                  unfold gConst at he
                  have S27 := SS_new (kd := 52) (n := 2) (p := []) S (by decide) trivial
                  refine zW_new ?_
                  rw [if_neg (show ¬ (52 : Nat) = 3 by decide)]
                  refine zW_tokv S27 (fun x28 hx28 S28 => ?_)
                  have S29 := SS_pk 2 [1, 0] rfl rfl S28
                  refine m_Constant hx28 (by omega) S29 (fun H30 S30 => ?_)
                  refine zW_let ?_
                  refine zW_pass (by omega) S30 (by rcases hc with z | z | z <;> omega) (by omega) (by omega) he her (fun σ31 H31 η31 S31 p31 w31 he => ?_)
                  have q31 := Qx_p p31
                  have m31 := q31.2.2.1
                  have d31 := dep_le q31
                  have vn31 := congrArg List.length w31.2
                  have vd31 := q31.1
                  refine zW_rQ (hk (gn (90 + ((pc σ).1 - 3)) [[((pc σ).2.1 : Int), (pc σ).2.2.2], (pc σ).2.2.1] []) _ _ _ _ (Option.some.inj he).symm ?_ ?_ (Qx_to q31 (by omega) (by omega)) (Er_n (by have k3 := (tCon_90 (p := 0) hc).2; simp only [List.mem_cons, List.not_mem_nil, or_false, not_or]; omega) (Er_1 w31)))
                  · rw [(tCon_90 hc).1]; exact SS_mono S31 (by omega) (by omega)
                  · have k3 := (tCon_90 (p := 0) hc).2; exact Or.inr k3
            · have q10 := Qx_p p10
              have m10 := q10.2.2.1
              have d10 := dep_le q10
              have vn10 := congrArg List.length w10.2
              have vd10 := q10.1
              have S32 := SS_new (kd := 50) (n := 4) (p := []) S10 (by decide) trivial
              refine zW_new ?_
              rw [if_neg (show ¬ (50 : Nat) = 3 by decide)]
              refine zW_label (by omega) S32 (by omega) (by omega) he her (fun lb33 x33 σ33 H33 η33 S33 p33 w33 z33 he => ?_)
              have q33 := Qx_p p33
              have m33 := q33.2.2.1
              have d33 := dep_le q33
              have vn33 := congrArg List.length w33.2
              have vd33 := q33.1
              clear z33
              have S34 := SS_pk 2 [1, 0] rfl rfl S33
              refine m_Select (by omega) S34 (fun H35 S35 => ?_)
              refine zW_rQ (hk (gn 4 [[((pc σ).2.1 : Int), ((pc σ).2.1 : Int)], lb33] []) _ _ _ _ (Option.some.inj he).symm ?_ ?_ (Qx_to (Qx_t q10 q33) (by omega) (by omega)) (Er_n (by decide) (Er_1 ⟨w33.1.trans w10.1, w33.2.trans w10.2⟩)))
              · rw [ho_gn]; exact SS_mono S35 (by omega) (by omega)
              · exact Or.inl ⟨(by decide : 3 ≤ 4), (by decide : 4 ≤ 20)⟩
  · refine zW_t rfl ?_
    rw [if_pos u1] at he
    exact zW_wr (by omega) S (by omega) (by omega) he her
end YAt
