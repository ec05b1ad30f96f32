set_option maxRecDepth 100000
/-! THE HOUSE'S PARSER: types at last (printed by gen/dsl/p74s.py) -/
theorem ho_52 {s : List Gt} : ho (gn 52 [] s) = oO 29 [] [oF 8701 (oL (fdL s)), oF 8702 (oL (fdP s)), oF 8703 (oL (s.map ho))] := by
  rw [ho_gn]
  show oO 29 [] [oF 8701 (oL (hlb _)), oF 8702 (oL (hpl _)), oF 8703 (oL (hs _))] = _
  rw [hlb_map, hpl_map, hs_map]
def gRowT (t : List Int) (R : PX) (σ : Ps) : PR := pOpens t σ fun σ1 => pB (if pIs σ1 33 then pR (gl []) σ1 else R 38 [] [] σ1) fun l σ2 => pCloses t 33 σ2 fun σ3 => pR (gn 52 [] (gs l)) σ3
section YTy4
variable {C : YC} {B : Nat → Prop} {X : Nat → Nat} {t : List Int} {R : PX} {n : Nat}
theorem y_rowTy (hel : ∀ n', n' ≤ n → YCf C B X t (sP t n' 30 [] []) 126 4 ho okTy) (hlen : t.length ≤ 900) : YCf C B X t (nE 32 (gRowT t (sP t n))) 131 0 ho okTy := by
  intro Γ H σ η M g h d Q r S hu hg hh hd he her hk
  have d40 := dep_40 S
  have vl := SS_vl S
  obtain ⟨w, he⟩ := nE_is he
  unfold gRowT at he
  try simp only [pB_pT, pB_ite, pB_pR, pB_pWr, pB_in, pB_ass, pB_pNeed, pB_pOpens, pB_pCloses, pB_pName, pB_pAny, pB_pOpn, pB_pLab, gs_gl, cons1] at he
  refine yl_Parser_rowTy ?_
  unfold yb_Parser_rowTy
  have hmu := pmu_le (t := t) (σ := σ)
  refine zW_opens (by omega) S (by have := w.1; omega) (by omega) (by omega) he her (fun lt σ1 H1 η1 S1 p1 w1 he => ?_)
  have q1 : Qx t 1 1 σ σ1 := Qx_to (Qx_o p1) (by omega) (by omega)
  have m1 := q1.2.2.1
  have d1 := dep_op q1 lt
  have v1 := p1.2.1
  have vn1 := congrArg List.length w1.2
  have vd1 := q1.1
  refine zW_let ?_
  refine zW_alnew (by omega) S1 (fun H2 l2 S2 => ?_)
  refine zW_let ?_
  refine zW_alnew (by omega) S2 (fun H3 l3 S3 => ?_)
  refine zW_let ?_
  refine zW_alnew (by omega) S3 (fun H4 l4 S4 => ?_)
  refine zW_let ?_
  refine zW_tis 33 119 (by decide) (by omega) S4 (fun u5 => ?_) (fun u5 => ?_)
  · rw [if_pos u5] at he
    refine yl_Parser_rowTy_p94 ?_
    unfold yb_Parser_rowTy_p94
    refine zW_closes 33 119 (by decide) (by omega) (by omega) (by omega) S4 (by omega) (by omega) he her (fun _ σ6 H6 η6 S6 p6 w6 he => ?_)
    have q6 : Qx t (-1) 1 σ1 σ6 := Qx_to (Qx_o p6) (by omega) (by omega)
    have m6 := q6.2.2.1
    have v6 := p6.2.1
    have vn6 := congrArg List.length w6.2
    have vd6 := q6.1
    have S7 := SS_new (kd := 29) (n := 4) (p := []) S6 (by decide) trivial
    refine zW_new ?_
    rw [if_neg (show ¬ (29 : Nat) = 3 by decide)]
    have S8 := SS_pk 4 [3, 0, 1, 2] rfl rfl S7
    have S9 := SS_oL S8
    have S10 := SS_pk 4 [3, 0, 1, 2] rfl rfl S9
    have S11 := SS_oL S10
    have S12 := SS_pk 4 [3, 0, 1, 2] rfl rfl S11
    have S13 := SS_oL S12
    have S14 := SS_pk 4 [3, 2, 1, 0] rfl rfl S13
    refine m_RowTy (by omega) S14 (fun H15 S15 => ?_)
    refine zW_rQ (hk (gn 52 [] []) _ _ _ _ (Option.some.inj he).symm ?_ ?_ (Qx_to (Qx_t q1 q6) (by omega) (by omega)) (Er_n (by decide) (Er_1 ⟨w6.1.trans w1.1, w6.2.trans w1.2⟩)))
    · rw [ho_52]; exact SS_mono S15 (by omega) (by omega)
    · exact ⟨(by decide : 50 ≤ 52), (by decide : 52 ≤ 54)⟩
  · rw [if_neg u5] at he
    refine y_fld (k := 30) (kk := 38) (mth := 126) (lev := 4) (m0 := 38) (j0 := 122) (ok := okTy) (fun _ _ o => okT_G o) (by decide) (fun n σ => rfl) 584 ((pc σ).2.1 : Int) (fun d al ap at' H => YL C d 585 [zr (X 8), .inl ((pc σ).2.1 : Int), zr al, zr ap, zr at'] H) (fun d H al ap at' Q hq => yl_Parser_rowTy_p43 hq) n hel Γ H4 σ1 η1 M _ _ d Q r 0 0 0 _ _ _ [] (fun l σ2 => pCloses t 33 σ2 fun σ3 => pR (gn 52 [] l) σ3) S4 hu (by omega) (by show _ + 24 * 0 ≤ _; omega) ⟨by omega, by omega, by omega⟩ (by show 0 + _ ≤ _; omega) (by omega) he her (fun l16 σ16 H16 η16 cl16 cp16 ct16 S16 n16 q16 e16 he => ?_)
    simp only [List.length_nil, List.nil_append] at S16
    try simp only [List.nil_append] at he
    have m16 := q16.2.2.1
    have vn16 := Er_len e16
    have vd16 := q16.1
    have g16 : 1 ≤ l16.length := List.length_pos_iff.mpr n16
    refine yl_Parser_rowTy_p94 ?_
    unfold yb_Parser_rowTy_p94
    refine zW_closes 33 119 (by decide) (by omega) (by omega) (by omega) S16 (by omega) (by omega) he her (fun _ σ17 H17 η17 S17 p17 w17 he => ?_)
    have q17 : Qx t (-1) 1 σ16 σ17 := Qx_to (Qx_o p17) (by omega) (by omega)
    have m17 := q17.2.2.1
    have v17 := p17.2.1
    have vn17 := congrArg List.length w17.2
    have vd17 := q17.1
    have S18 := SS_new (kd := 29) (n := 4) (p := []) S17 (by decide) trivial
    refine zW_new ?_
    rw [if_neg (show ¬ (29 : Nat) = 3 by decide)]
    have S19 := SS_pk 4 [3, 0, 1, 2] rfl rfl S18
    have S20 := SS_oL S19
    have S21 := SS_pk 4 [3, 0, 1, 2] rfl rfl S20
    have S22 := SS_oL S21
    have S23 := SS_pk 4 [3, 0, 1, 2] rfl rfl S22
    have S24 := SS_oL S23
    have S25 := SS_pk 4 [3, 2, 1, 0] rfl rfl S24
    refine m_RowTy (by omega) S25 (fun H26 S26 => ?_)
    refine zW_rQ (hk (gn 52 [] l16) _ _ _ _ (Option.some.inj he).symm ?_ ?_ (Qx_to (Qx_t q1 (Qx_t q16 q17)) (by omega) (by omega)) (Er_n (by decide) (Er_e (Er_o w1 e16) w17)))
    · rw [ho_52]; exact SS_mono S26 (by omega) (by omega)
    · exact ⟨(by decide : 50 ≤ 52), (by decide : 52 ≤ 54)⟩
noncomputable def yb_atTyT (C : YC) (X : Nat → Nat) (d a : Nat) (H : YS) : ZR YS := zV (ycv (YL C) d [(6, 118)] (some (X 8)) [.inr (.inr (some (C.1 117)))] H) fun h7 => zI (ycv (YL C) d [(5, 506)] (some a) [] h7) fun v9 h8 => if v9 = 1 then zQ (ycv (YL C) d [(5, 528)] (some a) [.inl 0] h8) fun v11 h10 => ycc 10 441 v11 h10 <| zrQ v11 h10 else zQ (ycv (YL C) d [(6, 132)] (some (X 8)) [.inr (.inr (some a))] h8) fun v13 h12 => zrQ v13 h12
theorem okB_51' {σ : Ps} {p : Int} {n : List Int} {s : List Gt} : okTy σ (gn 51 [[p], n] s) := ⟨(by decide : 50 ≤ 51), (by decide : 51 ≤ 54)⟩
theorem y_atTy (hel : ∀ n', n' ≤ n → YCf C B X t (sP t n' 30 [] []) 126 4 ho okTy) (hrow : YCf C B X t (nE 32 (gRowT t (sP t n))) 131 0 ho okTy) (hlen : t.length ≤ 900) : YCf C B X t (gAtT t (sP t n)) 129 1 ho okTy := by
  intro Γ H σ η M g h d Q r S hu hg hh hd he her hk
  have d40 := dep_40 S
  have vl := SS_vl S
  unfold gAtT at he
  refine yl_Parser_atTy ?_
  unfold yb_Parser_atTy
  have hmu := pmu_le (t := t) (σ := σ)
  refine zW_kd 2 11 (by decide) rfl S (fun u1 => ?_) (fun u1 => ?_)
  · rw [if_pos u1] at he
    refine zW_var (by omega) S u1 hu (by omega) (by omega) he her (fun σ2 H2 η2 ro2 S2 p2 e2 he => ?_)
    have q2 := Qx_p p2
    have m2 := q2.2.2.1
    have d2 := dep_le q2
    have vn2 := Er_len e2
    have vd2 := q2.1
    refine zW_rQ (hk (gn 50 [[((pc σ).2.1 : Int)], (pc σ).2.2.1] []) _ _ _ _ (Option.some.inj he).symm ?_ ?_ (Qx_to q2 (by omega) (by omega)) (e2))
    · rw [ho_gn]; exact SS_mono S2 (by omega) (by omega)
    · exact ⟨(by decide : 50 ≤ 50), (by decide : 50 ≤ 54)⟩
  · rw [if_neg u1] at he
    refine zW_tis 32 114 (by decide) (by omega) S (fun u3 => ?_) (fun u3 => ?_)
    · rw [if_pos u3] at he
      have he := nE_he (f := gRowT t (sP t n)) u3 he
      refine zW_sub hrow (by omega) S hu (by omega) (by omega) he her (fun t4 σ4 H4 η4 ro4 S4 o4 q4 e4 he => ?_)
      have m4 := q4.2.2.1
      have d4 := dep_le q4
      have vn4 := Er_len e4
      have vd4 := q4.1
      exact zW_rQ (hk _ _ _ _ _ (Option.some.inj he).symm (SS_mono S4 (by omega) (by omega)) o4 (Qx_to q4 (by omega) (by omega)) e4)
    · rw [if_neg u3] at he
      refine zW_tis 28 115 (by decide) (by omega) S (fun u5 => ?_) (fun u5 => ?_)
      · rw [if_pos u5] at he
        refine zW_opens (by omega) S (by have := u5.1; omega) (by omega) (by omega) he her (fun lt σ6 H6 η6 S6 p6 w6 he => ?_)
        have q6 : Qx t 1 1 σ σ6 := Qx_to (Qx_o p6) (by omega) (by omega)
        have m6 := q6.2.2.1
        have d6 := dep_op q6 lt
        have v6 := p6.2.1
        have vn6 := congrArg List.length w6.2
        have vd6 := q6.1
        refine zW_alnew (by omega) S6 (fun H7 l7 S7 => ?_)
        refine zW_let ?_
        have he : pB (sP t n 30 [] [] σ6) (fun x σ1 => pB (sP t n 14 [((34 : Nat) : Int), ((30 : Nat) : Int)] [] σ1) fun l σ2 => (fun l σ2 => pCloses t 29 σ2 fun σ3 => if l.drop 1 = [] then pR (l.getD 0 (gl [])) σ3 else gNamed t l σ3) ([] ++ x :: gs l) σ2) = some r := he
        refine y_sep (k := 30) (mth := 126) (lev := 4) (im := ho) (ok := okTy) (P := fun τ => 50 ≤ gk τ ∧ gk τ ≤ 54) (fun _ _ o => ⟨okT_G o, o⟩) 34 118 (by decide) 581 (fun a => [zr a]) (fun d a H => yb_atTyT C X d a H) (fun d H a Q hq => yl_Parser_atTy_p74 hq) n hel Γ H7 σ6 η6 _ _ _ d Q r _ _ [] (fun l σ2 => pCloses t 29 σ2 fun σ3 => if l.drop 1 = [] then pR (l.getD 0 (gl [])) σ3 else gNamed t l σ3) S7 hu (by omega) (by show _ + 8 * 0 ≤ _; omega) (by omega) (by show 0 + _ ≤ _; omega) (by omega) he her (fun l8 σ8 H8 η8 c8 S8 n8 P8 q8 e8 z8 he => ?_)
        simp only [List.length_nil, List.nil_append] at S8 z8
        try simp only [List.nil_append] at he
        have m8 := q8.2.2.1
        have d8 := dep_le q8
        have vn8 := Er_len e8
        have vd8 := q8.1
        have g8 : 1 ≤ l8.length := List.length_pos_iff.mpr n8
        unfold yb_atTyT
        show zW _ Q
        refine zW_closes 29 117 (by decide) (by omega) (by omega) (by omega) S8 (by omega) (by omega) he her (fun _ σ9 H9 η9 S9 p9 w9 he => ?_)
        have q9 : Qx t (-1) 1 σ8 σ9 := Qx_to (Qx_o p9) (by omega) (by omega)
        have m9 := q9.2.2.1
        have v9 := p9.2.1
        have vn9 := congrArg List.length w9.2
        have vd9 := q9.1
        refine zW_size (by omega) S9 ?_
        rw [List.length_map]
        cases l8 with
        | nil => exact absurd rfl n8
        | cons a l =>
          cases l with
          | nil =>
            refine zW_t (by rfl) ?_
            have ha := P8 a List.mem_cons_self
            have S91 : SS C B X t Γ H9 σ9 η9 ((oC c8 [ho a], some l7) :: M) _ _ := S9
            refine zW_only (by omega) S91 (fun w S92 _ => ?_)
            obtain ⟨y, rfl, y1, y2⟩ := SS_kT ha S92
            rw [List.length_singleton] at S92
            exact zW_cc rfl (cc_T ⟨y1, y2⟩) (zW_rQ (hk a _ _ _ _ (Option.some.inj he).symm (SS_mono S92 (by omega) (by omega)) ha (Qx_to (Qx_t q6 (Qx_t q8 q9)) (by omega) (by omega)) (Er_e (Er_o w6 e8) w9)))
          | cons b l =>
            have hl2 : (a :: b :: l).length = l.length + 2 := rfl
            refine zW_f (by rw [hl2]; omega) ?_
            have he : gNamed t (a :: b :: l) σ9 = some r := he
            unfold gNamed at he
            refine zW_named (s := a :: b :: l) (by omega) S9 (by omega) (by omega) he her (fun _ σ95 H95 η95 ro95 S95 p95 w95 he => ?_)
            have q95 := Qx_p p95
            exact zW_rQ (hk _ _ _ _ _ (Option.some.inj he).symm (SS_mono S95 (by omega) (by omega)) okB_51' (Qx_to (Qx_t (Qx_t q6 (Qx_t q8 q9)) q95) (by omega) (by omega)) (Er_n (by decide) (Er_e (Er_e (Er_o w6 e8) w9) w95)))
      · rw [if_neg u5] at he
        refine zW_alnew (by omega) S (fun H10 l10 S10 => ?_)
        unfold gNamed at he
        refine zW_named (s := []) (by omega) S10 (by omega) (by omega) he her (fun _ σ95 H95 η95 ro95 S95 p95 w95 he => ?_)
        have q95 := Qx_p p95
        exact zW_rQ (hk _ _ _ _ _ (Option.some.inj he).symm (SS_mono S95 (by omega) (by omega)) okB_51' (Qx_to q95 (by omega) (by omega)) (Er_n (by decide) (Er_1 w95)))
end YTy4
