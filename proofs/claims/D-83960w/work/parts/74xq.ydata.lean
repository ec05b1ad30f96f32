set_option maxRecDepth 100000
/-! THE HOUSE'S PARSER: exception, datatype (printed by gen/dsl/p74xq.py) -/
theorem ite_sw {α : Type} {A D : Prop} [Decidable A] [Decidable D] {x y z : α} (h : A → D → False) : (if A then x else if D then y else z) = (if D then y else if A then x else z) := by
  by_cases a : A
  · rw [if_pos a, if_neg (h a), if_pos a]
  · rw [if_neg a, if_neg a]
def gExn (t : List Int) (R : PX) (σ : Ps) : PR := pT (pPass t σ) fun σ1 => pBn t σ1 fun q b σ2 =>
    if pIs σ2 40 then pT (pPass t σ2) fun σ3 => pBn t σ3 fun q' b' σ4 => pR (gn 76 [[(q : Int), (q' : Int)], b, b'] []) σ4
    else pB (gOf t R σ2) fun ys σ3 => pR (gn 75 [[(q : Int)], b] (gs ys)) σ3
def gDat (t : List Int) (R : PX) (σ : Ps) : PR := pT (pPass t σ) fun σ1 => pB (R 49 [] [] σ1) fun l σ2 => pR (gn 74 [] (gs l)) σ2
theorem ho_74 {s : List Gt} : ho (gn 74 [] s) = oO 62 [] [oF 18600 (oL (s.map ho))] := by
  rw [ho_gn]
  show oO 62 [] [oF 18600 (oL (hs _))] = _
  rw [hs_map]
theorem ho_82 {p : Int} {b : List Int} {ys : List Gt} : ho (gn 82 [[p], b] ys) = oO 64 [19201, p] [oF 19200 (oS b), oF 19202 ((ys.map ho).getD 0 oN)] := by
  rw [ho_gn]
  cases ys <;> rfl
theorem ho_81 {p : Int} {b : List Int} {vs cs : List Gt} : ho (gn 81 [[p], b] [gl vs, gl cs]) = oO 63 [18902, p] [oF 18900 (oL (vs.map oMt)), oF 18901 (oS b), oF 18903 (oL (cs.map ho))] := by
  rw [ho_gn, ← ho_gl]
  show oO 63 [18902, p] [oF 18900 (oL ((gs (gl vs)).map oMt)), oF 18901 (oS b), oF 18903 (ho (gl cs))] = _
  rw [gs_gl]
theorem ho_82a {p : Int} {b : List Int} {ys τs : List Gt} : τs.map ho ++ [oO 64 [19201, p] [oF 19200 (oS b), oF 19202 ((ys.map ho).getD 0 oN)]] = (τs ++ [gn 82 [[p], b] ys]).map ho := by
  rw [List.map_append, ← ho_82]; rfl
section YData
variable {C : YC} {B P O : Nat → Prop} {X : Nat → Nat} {t : List Int} {Γ : Gm} {H H' : YS} {σ σ1 : Ps} {η η1 : Et} {M : List (Gt × Option Nat)} {g h g' h' : Int} {a e c s d dp cap : Nat} {F : List (List Int × Int × Int)} {Q : Option (Option ZV) → YS → Prop} {r : (Int × Nat) ⊕ (Gt × Ps)} {f : Ps → PR} {θ τ : Gt} {w : Option Nat} {l : List Gt} {tk : Tok} {R : PX}

theorem SS_eqC {M : List (Gt × Option Nat)} {A : Gt × Option Nat} {w : Option Nat} {cap : Nat} {l l' : List Gt} (e : l = l') (S : SS C B X t Γ H σ η (A :: (oC cap l, w) :: M) g h) : SS C B X t Γ H σ η (A :: (oC cap l', w) :: M) g h := e ▸ S
theorem SS_eq {M : List (Gt × Option Nat)} {θ θ' : Gt} {w : Option Nat} (e : θ = θ') (S : SS C B X t Γ H σ η ((θ, w) :: M) g h) : SS C B X t Γ H σ η ((θ', w) :: M) g h := e ▸ S
theorem SS_fp {M : List (Gt × Option Nat)} {kd : Nat} {p : List Int} {s s' : List Gt} {w : Option Nat} (hkd : kd < 100) (hp : s.Perm s') (S : SS C B X t Γ H σ η ((gn kd [p] s, w) :: M) g h) : SS C B X t Γ H σ η ((gn kd [p] s', w) :: M) g h := by
  obtain ⟨F, h1, G, F1, g1, g2, g3, g4, g5⟩ := S.2.1
  have g4 : YO C B H (gn kd [p] s) G w := g4
  rw [YO_gn] at g4
  unfold hoA at g4
  rw [if_pos hkd] at g4
  obtain ⟨a, ha, q1, q2, q3, q4, q5⟩ := g4
  refine ⟨S.1, ⟨F, h1, G, F1, g1, g2, g3, ?_, g5⟩, S.2.2⟩
  show YO C B H (gn kd [p] s') G w
  rw [YO_gn]
  unfold hoA
  rw [if_pos hkd]
  exact ⟨a, ha, q1, q2, q3, q4, sep_perm ((hp.map _).map _) q5⟩
noncomputable abbrev kDat (C : YC) (X : Nat → Nat) (d a f : Nat) (H : YS) : ZR YS := ygR 18600 (some a) H fun v6 =>
    zI (ycv (YL C) d [(5, 505)] v6 [.inr (.inr (some f))] H) fun v8 h7 =>
    zI (ycv (YL C) d [(6, 108)] (some (X 8)) [.inr (.inr (some (C.1 146)))] h7) fun v10 h9 =>
    if v10 = 0 then
      zrQ (some a) h9
    else
    YL C d 612 [zr (X 8), zr a] h9
theorem y_exception {n : Nat} (h30 : YCf C B X t (sP t n 30 [] []) 126 4 ho okTy) (hlen : t.length ≤ 900) : YDf C B X t (nE 8 (gExn t (sP t n))) 164 20 ho okDc := by
  intro Γ H σ η M g h d Q r S hu hvl hg hh hd he her hk
  have d40 := dep_40 S
  have vl := SS_vl S
  have hmu := pmu_le (t := t) (σ := σ)
  obtain ⟨w, he⟩ := nE_is he
  unfold gExn at he
  unfold pBn at he
  unfold pOpn at he
  unfold gOf at he
  try simp only [pB_pT, pB_ite, pB_pR, pB_pWr, pB_in, pB_ass, pB_pNeed, pB_pOpens, pB_pCloses, pB_pName, pB_pAny, pB_pOpn, pB_pLab, gs_gl, cons1] at he
  refine yl_Parser_exception ?_
  unfold yb_Parser_exception
  refine zW_pass (by omega) S (by have := w.1; omega) (by omega) (by omega) he her (fun σ1 H1 η1 S1 p1 w1 he => ?_)
  have q1 := Qx_p p1
  have m1 := q1.2.2.1
  have d1 := dep_le q1
  have vn1 := congrArg List.length w1.2
  have vd1 := q1.1
  refine zW_takesK 20 112 (by decide) (by omega) S1 (by omega) (by omega) he her (fun u2 he => ?_) (fun u2 σ2 H2 η2 S2 p2 w2 he => ?_)
  · refine zW_let ?_
    refine zW_plc S1 ?_
    refine zW_let ?_
    refine zW_t rfl ?_
    refine zW_name (by omega) S1 (by omega) (by omega) he her (fun k3 x3 σ3 H3 η3 S3 p3 w3 he => ?_)
    have q3 := Qx_p p3
    have m3 := q3.2.2.1
    have d3 := dep_le q3
    have vn3 := congrArg List.length w3.2
    have vd3 := q3.1
    refine yl_Parser_exception_p35 ?_
    unfold yb_Parser_exception_p35
    refine zW_let ?_
    rw [ite_sw (fun z z2 => tIs_ne (by decide) z z2)] at he
    refine zW_takes 19 135 (by decide) (by omega) S3 (by omega) (by omega) he her (fun u4 he => ?_) (fun u4 σ4 H4 η4 S4 p4 w4 he => ?_)
    · refine zW_takes 40 1 (by decide) (by omega) S3 (by omega) (by omega) he her (fun u5 he => ?_) (fun u5 σ5 H5 η5 S5 p5 w5 he => ?_)
      · have S6 := SS_new (kd := 65) (n := 8) (p := []) S3 (by decide) trivial
        refine zW_new ?_
        rw [if_neg (show ¬ (65 : Nat) = 3 by decide)]
        have S7 := SS_no S6
        have S8 := SS_no S7
        have S9 := SS_pk 4 [2, 3, 1, 0] rfl rfl S8
        refine m_ExceptionDec (by omega) S9 (fun H10 S10 => ?_)
        refine zW_rQ (hk (gn 75 [[((pc σ1).2.1 : Int)], (pc σ1).2.2.1] []) _ _ _ _ (Option.some.inj he).symm ?_ ?_ (Qx_to (Qx_t q1 q3) (by omega) (by omega)) (Er_d (by decide) (Er_1 ⟨w3.1.trans w1.1, w3.2.trans w1.2⟩)))
        · rw [ho_75]; exact SS_mono S10 (by omega) (by omega)
        · exact ⟨(by decide : 70 ≤ 75), (by decide : 75 ≤ 77)⟩
      · have q5 := Qx_p p5
        have m5 := q5.2.2.1
        have d5 := dep_le q5
        have vn5 := congrArg List.length w5.2
        have vd5 := q5.1
        refine zW_takesK 20 112 (by decide) (by omega) S5 (by omega) (by omega) he her (fun u11 he => ?_) (fun u11 σ11 H11 η11 S11 p11 w11 he => ?_)
        · refine zW_let ?_
          refine zW_plc S5 ?_
          refine zW_let ?_
          refine zW_t rfl ?_
          refine zW_name (by omega) S5 (by omega) (by omega) he her (fun k12 x12 σ12 H12 η12 S12 p12 w12 he => ?_)
          have q12 := Qx_p p12
          have m12 := q12.2.2.1
          have d12 := dep_le q12
          have vn12 := congrArg List.length w12.2
          have vd12 := q12.1
          refine yl_Parser_exception_p118 ?_
          unfold yb_Parser_exception_p118
          refine zW_let ?_
          have S13 := SS_new (kd := 65) (n := 8) (p := []) S12 (by decide) trivial
          refine zW_new ?_
          rw [if_neg (show ¬ (65 : Nat) = 3 by decide)]
          have S14 := SS_no S13
          have S15 := SS_pk 4 [1, 3, 0, 2] rfl rfl S14
          refine m_ExceptionDec (by omega) S15 (fun H16 S16 => ?_)
          refine zW_rQ (hk (gn 76 [[((pc σ1).2.1 : Int), ((pc σ5).2.1 : Int)], (pc σ1).2.2.1, (pc σ5).2.2.1] []) _ _ _ _ (Option.some.inj he).symm ?_ ?_ (Qx_to (Qx_t q1 (Qx_t q3 (Qx_t q5 q12))) (by omega) (by omega)) (Er_76 (Er_1 ⟨w12.1.trans (w5.1.trans (w3.1.trans w1.1)), w12.2.trans (w5.2.trans (w3.2.trans w1.2))⟩)))
          · rw [ho_76]; exact SS_mono S16 (by omega) (by omega)
          · exact ⟨(by decide : 70 ≤ 76), (by decide : 76 ≤ 77)⟩
        · have q11 := Qx_p p11
          have m11 := q11.2.2.1
          have d11 := dep_le q11
          have vn11 := congrArg List.length w11.2
          have vd11 := q11.1
          refine zW_let ?_
          refine zW_plc S11 ?_
          refine zW_let ?_
          refine zW_f (by decide) ?_
          refine zW_any (by omega) S11 (by omega) (by omega) he her (fun k17 x17 σ17 H17 η17 S17 p17 w17 he => ?_)
          have q17 := Qx_p p17
          have m17 := q17.2.2.1
          have d17 := dep_le q17
          have vn17 := congrArg List.length w17.2
          have vd17 := q17.1
          refine yl_Parser_exception_p118 ?_
          unfold yb_Parser_exception_p118
          refine zW_let ?_
          have S18 := SS_new (kd := 65) (n := 8) (p := []) S17 (by decide) trivial
          refine zW_new ?_
          rw [if_neg (show ¬ (65 : Nat) = 3 by decide)]
          have S19 := SS_no S18
          have S20 := SS_pk 4 [1, 3, 0, 2] rfl rfl S19
          refine m_ExceptionDec (by omega) S20 (fun H21 S21 => ?_)
          refine zW_rQ (hk (gn 76 [[((pc σ1).2.1 : Int), ((pc σ11).2.1 : Int)], (pc σ1).2.2.1, (pc σ11).2.2.1] []) _ _ _ _ (Option.some.inj he).symm ?_ ?_ (Qx_to (Qx_t q1 (Qx_t q3 (Qx_t q5 (Qx_t q11 q17)))) (by omega) (by omega)) (Er_76 (Er_1 ⟨w17.1.trans (w11.1.trans (w5.1.trans (w3.1.trans w1.1))), w17.2.trans (w11.2.trans (w5.2.trans (w3.2.trans w1.2)))⟩)))
          · rw [ho_76]; exact SS_mono S21 (by omega) (by omega)
          · exact ⟨(by decide : 70 ≤ 76), (by decide : 76 ≤ 77)⟩
    · have q4 := Qx_p p4
      have m4 := q4.2.2.1
      have d4 := dep_le q4
      have vn4 := congrArg List.length w4.2
      have vd4 := q4.1
      have S22 := SS_new (kd := 65) (n := 8) (p := []) S4 (by decide) trivial
      refine zW_new ?_
      rw [if_neg (show ¬ (65 : Nat) = 3 by decide)]
      refine zW_toldTy (h30) (by omega) S22 hu (by omega) (by omega) he her (fun t23 σ23 H23 η23 ro23 S23 o23 q23 e23 he => ?_)
      have m23 := q23.2.2.1
      have d23 := dep_le q23
      have vn23 := Er_len e23
      have vd23 := q23.1
      have S24 := SS_no S23
      have S25 := SS_pk 4 [2, 3, 1, 0] rfl rfl S24
      refine m_ExceptionDec (by omega) S25 (fun H26 S26 => ?_)
      refine zW_rQ (hk (gn 75 [[((pc σ1).2.1 : Int)], (pc σ1).2.2.1] [t23]) _ _ _ _ (Option.some.inj he).symm ?_ ?_ (Qx_to (Qx_t q1 (Qx_t q3 (Qx_t q4 q23))) (by omega) (by omega)) (Er_d (by decide) (Er_o ⟨w4.1.trans (w3.1.trans w1.1), w4.2.trans (w3.2.trans w1.2)⟩ e23)))
      · rw [ho_75]; exact SS_mono S26 (by omega) (by omega)
      · exact ⟨(by decide : 70 ≤ 75), (by decide : 75 ≤ 77)⟩
  · have q2 := Qx_p p2
    have m2 := q2.2.2.1
    have d2 := dep_le q2
    have vn2 := congrArg List.length w2.2
    have vd2 := q2.1
    refine zW_let ?_
    refine zW_plc S2 ?_
    refine zW_let ?_
    refine zW_f (by decide) ?_
    refine zW_any (by omega) S2 (by omega) (by omega) he her (fun k27 x27 σ27 H27 η27 S27 p27 w27 he => ?_)
    have q27 := Qx_p p27
    have m27 := q27.2.2.1
    have d27 := dep_le q27
    have vn27 := congrArg List.length w27.2
    have vd27 := q27.1
    refine yl_Parser_exception_p35 ?_
    unfold yb_Parser_exception_p35
    refine zW_let ?_
    rw [ite_sw (fun z z2 => tIs_ne (by decide) z z2)] at he
    refine zW_takes 19 135 (by decide) (by omega) S27 (by omega) (by omega) he her (fun u28 he => ?_) (fun u28 σ28 H28 η28 S28 p28 w28 he => ?_)
    · refine zW_takes 40 1 (by decide) (by omega) S27 (by omega) (by omega) he her (fun u29 he => ?_) (fun u29 σ29 H29 η29 S29 p29 w29 he => ?_)
      · have S30 := SS_new (kd := 65) (n := 8) (p := []) S27 (by decide) trivial
        refine zW_new ?_
        rw [if_neg (show ¬ (65 : Nat) = 3 by decide)]
        have S31 := SS_no S30
        have S32 := SS_no S31
        have S33 := SS_pk 4 [2, 3, 1, 0] rfl rfl S32
        refine m_ExceptionDec (by omega) S33 (fun H34 S34 => ?_)
        refine zW_rQ (hk (gn 75 [[((pc σ2).2.1 : Int)], (pc σ2).2.2.1] []) _ _ _ _ (Option.some.inj he).symm ?_ ?_ (Qx_to (Qx_t q1 (Qx_t q2 q27)) (by omega) (by omega)) (Er_d (by decide) (Er_1 ⟨w27.1.trans (w2.1.trans w1.1), w27.2.trans (w2.2.trans w1.2)⟩)))
        · rw [ho_75]; exact SS_mono S34 (by omega) (by omega)
        · exact ⟨(by decide : 70 ≤ 75), (by decide : 75 ≤ 77)⟩
      · have q29 := Qx_p p29
        have m29 := q29.2.2.1
        have d29 := dep_le q29
        have vn29 := congrArg List.length w29.2
        have vd29 := q29.1
        refine zW_takesK 20 112 (by decide) (by omega) S29 (by omega) (by omega) he her (fun u35 he => ?_) (fun u35 σ35 H35 η35 S35 p35 w35 he => ?_)
        · refine zW_let ?_
          refine zW_plc S29 ?_
          refine zW_let ?_
          refine zW_t rfl ?_
          refine zW_name (by omega) S29 (by omega) (by omega) he her (fun k36 x36 σ36 H36 η36 S36 p36 w36 he => ?_)
          have q36 := Qx_p p36
          have m36 := q36.2.2.1
          have d36 := dep_le q36
          have vn36 := congrArg List.length w36.2
          have vd36 := q36.1
          refine yl_Parser_exception_p118 ?_
          unfold yb_Parser_exception_p118
          refine zW_let ?_
          have S37 := SS_new (kd := 65) (n := 8) (p := []) S36 (by decide) trivial
          refine zW_new ?_
          rw [if_neg (show ¬ (65 : Nat) = 3 by decide)]
          have S38 := SS_no S37
          have S39 := SS_pk 4 [1, 3, 0, 2] rfl rfl S38
          refine m_ExceptionDec (by omega) S39 (fun H40 S40 => ?_)
          refine zW_rQ (hk (gn 76 [[((pc σ2).2.1 : Int), ((pc σ29).2.1 : Int)], (pc σ2).2.2.1, (pc σ29).2.2.1] []) _ _ _ _ (Option.some.inj he).symm ?_ ?_ (Qx_to (Qx_t q1 (Qx_t q2 (Qx_t q27 (Qx_t q29 q36)))) (by omega) (by omega)) (Er_76 (Er_1 ⟨w36.1.trans (w29.1.trans (w27.1.trans (w2.1.trans w1.1))), w36.2.trans (w29.2.trans (w27.2.trans (w2.2.trans w1.2)))⟩)))
          · rw [ho_76]; exact SS_mono S40 (by omega) (by omega)
          · exact ⟨(by decide : 70 ≤ 76), (by decide : 76 ≤ 77)⟩
        · have q35 := Qx_p p35
          have m35 := q35.2.2.1
          have d35 := dep_le q35
          have vn35 := congrArg List.length w35.2
          have vd35 := q35.1
          refine zW_let ?_
          refine zW_plc S35 ?_
          refine zW_let ?_
          refine zW_f (by decide) ?_
          refine zW_any (by omega) S35 (by omega) (by omega) he her (fun k41 x41 σ41 H41 η41 S41 p41 w41 he => ?_)
          have q41 := Qx_p p41
          have m41 := q41.2.2.1
          have d41 := dep_le q41
          have vn41 := congrArg List.length w41.2
          have vd41 := q41.1
          refine yl_Parser_exception_p118 ?_
          unfold yb_Parser_exception_p118
          refine zW_let ?_
          have S42 := SS_new (kd := 65) (n := 8) (p := []) S41 (by decide) trivial
          refine zW_new ?_
          rw [if_neg (show ¬ (65 : Nat) = 3 by decide)]
          have S43 := SS_no S42
          have S44 := SS_pk 4 [1, 3, 0, 2] rfl rfl S43
          refine m_ExceptionDec (by omega) S44 (fun H45 S45 => ?_)
          refine zW_rQ (hk (gn 76 [[((pc σ2).2.1 : Int), ((pc σ35).2.1 : Int)], (pc σ2).2.2.1, (pc σ35).2.2.1] []) _ _ _ _ (Option.some.inj he).symm ?_ ?_ (Qx_to (Qx_t q1 (Qx_t q2 (Qx_t q27 (Qx_t q29 (Qx_t q35 q41))))) (by omega) (by omega)) (Er_76 (Er_1 ⟨w41.1.trans (w35.1.trans (w29.1.trans (w27.1.trans (w2.1.trans w1.1)))), w41.2.trans (w35.2.trans (w29.2.trans (w27.2.trans (w2.2.trans w1.2))))⟩)))
          · rw [ho_76]; exact SS_mono S45 (by omega) (by omega)
          · exact ⟨(by decide : 70 ≤ 76), (by decide : 76 ≤ 77)⟩
    · have q28 := Qx_p p28
      have m28 := q28.2.2.1
      have d28 := dep_le q28
      have vn28 := congrArg List.length w28.2
      have vd28 := q28.1
      have S46 := SS_new (kd := 65) (n := 8) (p := []) S28 (by decide) trivial
      refine zW_new ?_
      rw [if_neg (show ¬ (65 : Nat) = 3 by decide)]
      refine zW_toldTy (h30) (by omega) S46 hu (by omega) (by omega) he her (fun t47 σ47 H47 η47 ro47 S47 o47 q47 e47 he => ?_)
      have m47 := q47.2.2.1
      have d47 := dep_le q47
      have vn47 := Er_len e47
      have vd47 := q47.1
      have S48 := SS_no S47
      have S49 := SS_pk 4 [2, 3, 1, 0] rfl rfl S48
      refine m_ExceptionDec (by omega) S49 (fun H50 S50 => ?_)
      refine zW_rQ (hk (gn 75 [[((pc σ2).2.1 : Int)], (pc σ2).2.2.1] [t47]) _ _ _ _ (Option.some.inj he).symm ?_ ?_ (Qx_to (Qx_t q1 (Qx_t q2 (Qx_t q27 (Qx_t q28 q47)))) (by omega) (by omega)) (Er_d (by decide) (Er_o ⟨w28.1.trans (w27.1.trans (w2.1.trans w1.1)), w28.2.trans (w27.2.trans (w2.2.trans w1.2))⟩ e47)))
      · rw [ho_75]; exact SS_mono S50 (by omega) (by omega)
      · exact ⟨(by decide : 70 ≤ 75), (by decide : 75 ≤ 77)⟩
theorem y_conLoop : ∀ (n : Nat), (∀ n', n' < n → YCf C B X t (sP t n' 30 [] []) 126 4 ho okTy) → ∀ (Γ : Gm) (H : YS) (σ : Ps) (η : Et) (M : List (Gt × Option Nat)) (g h : Int) (d : Nat) (Q : Option (Option ZV) → YS → Prop) (r : (Int × Nat) ⊕ (Gt × Ps)) (cap l3 f a : Nat) (x : Int) (τs : List Gt) (fT : List Gt → Ps → PR) (θ1 θ2 : Gt), SS C B X t Γ H σ η ((oO 63 [18902, x] [oF 18903 (oA l3), oF 18900 θ1, oF 18901 θ2], some f) :: (oC cap (τs.map ho), some l3) :: M) g h → Γ.2.2.2.2 = 0 → g ≤ 2980 → h + 8 * τs.length ≤ 2860 + 4 * cap → cap ≤ 10 + 2 * τs.length → τs.length + pmu t σ ≤ 999 → dep t σ + 16 ≤ d → pB (sP t n 50 [] [] σ) (fun l σ2 => fT (τs ++ gs l) σ2) = some r →
      (∀ e p H', r = .inl (e, p) → Th C B X t Γ H' e p → Q none H') →
      (∀ l σ2 H2 η2 cap2, SS C B X t Γ H2 σ2 η2 ((oO 63 [18902, x] [oF 18903 (oA l3), oF 18900 θ1, oF 18901 θ2], some f) :: (oC cap2 ((τs ++ l).map ho), some l3) :: M) (g - 28 * l.length) (h + 40 + 8 * τs.length - 4 * cap - 180 * l.length) → l ≠ [] → Qx t 0 1 σ σ2 → Er η η2 [] → (τs ++ l).length + pmu t σ2 ≤ 999 → fT (τs ++ l) σ2 = some r → zW (kDat C X d a f H2) Q) → zW (YL C d 808 [zr (X 8), zr a, zr f] H) Q := by
  intro n
  induction n with
  | zero =>
    intro _ Γ H σ η M g h d Q r cap l3 f a x τs fT θ1 θ2 S hu hg hh hc hl hd he
    cases he
  | succ n ih =>
    intro h30 Γ H σ η M g h d Q r cap l3 f a x τs fT θ1 θ2 S hu hg hh hc hl hd he her hT
    have d40 := dep_40 S
    have vl := SS_vl S
    have hmp : (τs.map ho).length = τs.length := List.length_map _
    have he : pB (gCons t (sP t n) σ) (fun l σ2 => fT (τs ++ gs l) σ2) = some r := he
    unfold gCons pBn pOpn gOf at he
    simp only [pB_pT, pB_ite, pB_pR, pB_pWr, pB_in, pB_ass, pB_pNeed, pB_pOpens, pB_pCloses, pB_pName, pB_pAny, pB_pOpn, pB_pLab, gs_gl, cons1] at he
    refine yl_Parser_datatype_p46 ?_
    unfold yb_Parser_datatype_p46
    refine zW_takesK 20 112 (by decide) (by omega) S (by omega) (by omega) he her (fun u1 he => ?_) (fun u1 σ1 H1 η1 S1 p1 w1 he => ?_)
    · refine zW_let ?_
      refine zW_plc S ?_
      refine zW_let ?_
      refine zW_t rfl ?_
      refine zW_name (by omega) S (by omega) (by omega) he her (fun k2 x2 σ2 H2 η2 S2 p2 w2 he => ?_)
      have q2 := Qx_p p2
      have m2 := q2.2.2.1
      have d2 := dep_le q2
      have vn2 := congrArg List.length w2.2
      have vd2 := q2.1
      refine yl_Parser_datatype_p80 ?_
      unfold yb_Parser_datatype_p80
      refine zW_let ?_
      have S3 := SS_pk 2 [1, 0] rfl rfl S2
      refine zW_gA [] (by decide) (by decide) S3 ?_
      have S4 := SS_new (kd := 64) (n := 3) (p := []) S3 (by decide) trivial
      refine zW_new ?_
      rw [if_neg (show ¬ (64 : Nat) = 3 by decide)]
      refine zW_takes 19 135 (by decide) (by omega) S4 (by omega) (by omega) he her (fun u5 he => ?_) (fun u5 σ5 H5 η5 S5 p5 w5 he => ?_)
      · refine yl_Parser_datatype_p113 ?_
        unfold yb_Parser_datatype_p113
        have S6 := SS_no S4
        have S7 := SS_pk 4 [1, 3, 0, 2] rfl rfl S6
        refine m_ConDec (by omega) S7 (fun H8 S8 => ?_)
        have S10 := SS_pk 3 [2, 0, 1] rfl rfl S8
        refine zW_add (by omega) (by omega) (okO (by decide)) S10 (fun H9 c9 S9 f9 f9' => ?_)
        refine zW_takes 39 137 (by decide) (by omega) S9 (by omega) (by omega) he her (fun u11 he => ?_) (fun u11 σ11 H11 η11 S11 p11 w11 he => ?_)
        · have S12 := SS_pk 2 [1, 0] rfl rfl S9
          have S13 := SS_eqC (ho_82a (p := ((pc σ).2.1 : Int)) (b := (pc σ).2.2.1) (ys := []) (τs := τs)) S12
          exact hT [gn 82 [[((pc σ).2.1 : Int)], (pc σ).2.2.1] []] σ2 H9 η2 _ (SS_mono S13 (by show _ ≤ g - 28 * ((1 : Nat) : Int); omega) (by show _ ≤ h + 40 + 8 * (τs.length : Int) - 4 * cap - 180 * ((1 : Nat) : Int); omega)) (fun q => by cases q) (Qx_to q2 (by omega) (by omega)) (Er_1 w2) (by rw [List.length_append]; show _ + 1 + _ ≤ _; omega) he
        · have q11 := Qx_p p11
          have m11 := q11.2.2.1
          have d11 := dep_le q11
          have vn11 := congrArg List.length w11.2
          have vd11 := q11.1
          have S14 := SS_pk 2 [1, 0] rfl rfl S11
          have S15 := SS_eqC (ho_82a (p := ((pc σ).2.1 : Int)) (b := (pc σ).2.2.1) (ys := []) (τs := τs)) S14
          have hln2 : (τs ++ [gn 82 [[((pc σ).2.1 : Int)], (pc σ).2.2.1] []]).length = τs.length + 1 := by rw [List.length_append]; rfl
          refine ih (fun n' hn' => h30 n' (by omega)) Γ H11 σ11 η11 M _ _ d Q r _ l3 f a x (τs ++ [gn 82 [[((pc σ).2.1 : Int)], (pc σ).2.2.1] []]) fT θ1 θ2 S15 hu (by omega) (by rw [hln2]; omega) (by rw [hln2]; omega) (by rw [hln2]; omega) (by omega) (by simp only [List.append_assoc]; exact he) her (fun l σ95 H95 η95 cap95 S95 _ q95 e95 z95 he95 => ?_)
          have hcons : (τs ++ [gn 82 [[((pc σ).2.1 : Int)], (pc σ).2.2.1] []]) ++ l = τs ++ gn 82 [[((pc σ).2.1 : Int)], (pc σ).2.2.1] [] :: l := by rw [List.append_assoc]; rfl
          rw [hcons, hln2] at S95
          rw [hcons] at he95 z95
          exact hT (gn 82 [[((pc σ).2.1 : Int)], (pc σ).2.2.1] [] :: l) σ95 H95 η95 cap95 (SS_mono S95 (by rw [List.length_cons]; omega) (by rw [List.length_cons]; omega)) (fun q => by cases q) (Qx_to (Qx_t (Qx_t q2 q11) q95) (by omega) (by omega)) (Er_t (Er_1 ⟨w11.1.trans w2.1, w11.2.trans w2.2⟩) e95) z95 he95
      · have q5 := Qx_p p5
        have m5 := q5.2.2.1
        have d5 := dep_le q5
        have vn5 := congrArg List.length w5.2
        have vd5 := q5.1
        refine zW_toldTy (h30 n (by omega)) (by omega) S5 hu (by omega) (by omega) he her (fun t16 σ16 H16 η16 ro16 S16 o16 q16 e16 he => ?_)
        have m16 := q16.2.2.1
        have d16 := dep_le q16
        have vn16 := Er_len e16
        have vd16 := q16.1
        refine yl_Parser_datatype_p113 ?_
        unfold yb_Parser_datatype_p113
        have S17 := SS_pk 4 [1, 3, 0, 2] rfl rfl S16
        refine m_ConDec (by omega) S17 (fun H18 S18 => ?_)
        have S20 := SS_pk 3 [2, 0, 1] rfl rfl S18
        refine zW_add (by omega) (by omega) (okO (by decide)) S20 (fun H19 c19 S19 f19 f19' => ?_)
        refine zW_takes 39 137 (by decide) (by omega) S19 (by omega) (by omega) he her (fun u21 he => ?_) (fun u21 σ21 H21 η21 S21 p21 w21 he => ?_)
        · have S22 := SS_pk 2 [1, 0] rfl rfl S19
          have S23 := SS_eqC (ho_82a (p := ((pc σ).2.1 : Int)) (b := (pc σ).2.2.1) (ys := [t16]) (τs := τs)) S22
          exact hT [gn 82 [[((pc σ).2.1 : Int)], (pc σ).2.2.1] [t16]] σ16 H19 η16 _ (SS_mono S23 (by show _ ≤ g - 28 * ((1 : Nat) : Int); omega) (by show _ ≤ h + 40 + 8 * (τs.length : Int) - 4 * cap - 180 * ((1 : Nat) : Int); omega)) (fun q => by cases q) (Qx_to (Qx_t q2 (Qx_t q5 q16)) (by omega) (by omega)) (Er_o ⟨w5.1.trans w2.1, w5.2.trans w2.2⟩ e16) (by rw [List.length_append]; show _ + 1 + _ ≤ _; omega) he
        · have q21 := Qx_p p21
          have m21 := q21.2.2.1
          have d21 := dep_le q21
          have vn21 := congrArg List.length w21.2
          have vd21 := q21.1
          have S24 := SS_pk 2 [1, 0] rfl rfl S21
          have S25 := SS_eqC (ho_82a (p := ((pc σ).2.1 : Int)) (b := (pc σ).2.2.1) (ys := [t16]) (τs := τs)) S24
          have hln2 : (τs ++ [gn 82 [[((pc σ).2.1 : Int)], (pc σ).2.2.1] [t16]]).length = τs.length + 1 := by rw [List.length_append]; rfl
          refine ih (fun n' hn' => h30 n' (by omega)) Γ H21 σ21 η21 M _ _ d Q r _ l3 f a x (τs ++ [gn 82 [[((pc σ).2.1 : Int)], (pc σ).2.2.1] [t16]]) fT θ1 θ2 S25 hu (by omega) (by rw [hln2]; omega) (by rw [hln2]; omega) (by rw [hln2]; omega) (by omega) (by simp only [List.append_assoc]; exact he) her (fun l σ95 H95 η95 cap95 S95 _ q95 e95 z95 he95 => ?_)
          have hcons : (τs ++ [gn 82 [[((pc σ).2.1 : Int)], (pc σ).2.2.1] [t16]]) ++ l = τs ++ gn 82 [[((pc σ).2.1 : Int)], (pc σ).2.2.1] [t16] :: l := by rw [List.append_assoc]; rfl
          rw [hcons, hln2] at S95
          rw [hcons] at he95 z95
          exact hT (gn 82 [[((pc σ).2.1 : Int)], (pc σ).2.2.1] [t16] :: l) σ95 H95 η95 cap95 (SS_mono S95 (by rw [List.length_cons]; omega) (by rw [List.length_cons]; omega)) (fun q => by cases q) (Qx_to (Qx_t (Qx_t q2 (Qx_t q5 (Qx_t q16 q21))) q95) (by omega) (by omega)) (Er_t (Er_e (Er_o ⟨w5.1.trans w2.1, w5.2.trans w2.2⟩ e16) w21) e95) z95 he95
    · have q1 := Qx_p p1
      have m1 := q1.2.2.1
      have d1 := dep_le q1
      have vn1 := congrArg List.length w1.2
      have vd1 := q1.1
      refine zW_let ?_
      refine zW_plc S1 ?_
      refine zW_let ?_
      refine zW_f (by decide) ?_
      refine zW_any (by omega) S1 (by omega) (by omega) he her (fun k26 x26 σ26 H26 η26 S26 p26 w26 he => ?_)
      have q26 := Qx_p p26
      have m26 := q26.2.2.1
      have d26 := dep_le q26
      have vn26 := congrArg List.length w26.2
      have vd26 := q26.1
      refine yl_Parser_datatype_p80 ?_
      unfold yb_Parser_datatype_p80
      refine zW_let ?_
      have S27 := SS_pk 2 [1, 0] rfl rfl S26
      refine zW_gA [] (by decide) (by decide) S27 ?_
      have S28 := SS_new (kd := 64) (n := 3) (p := []) S27 (by decide) trivial
      refine zW_new ?_
      rw [if_neg (show ¬ (64 : Nat) = 3 by decide)]
      refine zW_takes 19 135 (by decide) (by omega) S28 (by omega) (by omega) he her (fun u29 he => ?_) (fun u29 σ29 H29 η29 S29 p29 w29 he => ?_)
      · refine yl_Parser_datatype_p113 ?_
        unfold yb_Parser_datatype_p113
        have S30 := SS_no S28
        have S31 := SS_pk 4 [1, 3, 0, 2] rfl rfl S30
        refine m_ConDec (by omega) S31 (fun H32 S32 => ?_)
        have S34 := SS_pk 3 [2, 0, 1] rfl rfl S32
        refine zW_add (by omega) (by omega) (okO (by decide)) S34 (fun H33 c33 S33 f33 f33' => ?_)
        refine zW_takes 39 137 (by decide) (by omega) S33 (by omega) (by omega) he her (fun u35 he => ?_) (fun u35 σ35 H35 η35 S35 p35 w35 he => ?_)
        · have S36 := SS_pk 2 [1, 0] rfl rfl S33
          have S37 := SS_eqC (ho_82a (p := ((pc σ1).2.1 : Int)) (b := (pc σ1).2.2.1) (ys := []) (τs := τs)) S36
          exact hT [gn 82 [[((pc σ1).2.1 : Int)], (pc σ1).2.2.1] []] σ26 H33 η26 _ (SS_mono S37 (by show _ ≤ g - 28 * ((1 : Nat) : Int); omega) (by show _ ≤ h + 40 + 8 * (τs.length : Int) - 4 * cap - 180 * ((1 : Nat) : Int); omega)) (fun q => by cases q) (Qx_to (Qx_t q1 q26) (by omega) (by omega)) (Er_1 ⟨w26.1.trans w1.1, w26.2.trans w1.2⟩) (by rw [List.length_append]; show _ + 1 + _ ≤ _; omega) he
        · have q35 := Qx_p p35
          have m35 := q35.2.2.1
          have d35 := dep_le q35
          have vn35 := congrArg List.length w35.2
          have vd35 := q35.1
          have S38 := SS_pk 2 [1, 0] rfl rfl S35
          have S39 := SS_eqC (ho_82a (p := ((pc σ1).2.1 : Int)) (b := (pc σ1).2.2.1) (ys := []) (τs := τs)) S38
          have hln2 : (τs ++ [gn 82 [[((pc σ1).2.1 : Int)], (pc σ1).2.2.1] []]).length = τs.length + 1 := by rw [List.length_append]; rfl
          refine ih (fun n' hn' => h30 n' (by omega)) Γ H35 σ35 η35 M _ _ d Q r _ l3 f a x (τs ++ [gn 82 [[((pc σ1).2.1 : Int)], (pc σ1).2.2.1] []]) fT θ1 θ2 S39 hu (by omega) (by rw [hln2]; omega) (by rw [hln2]; omega) (by rw [hln2]; omega) (by omega) (by simp only [List.append_assoc]; exact he) her (fun l σ95 H95 η95 cap95 S95 _ q95 e95 z95 he95 => ?_)
          have hcons : (τs ++ [gn 82 [[((pc σ1).2.1 : Int)], (pc σ1).2.2.1] []]) ++ l = τs ++ gn 82 [[((pc σ1).2.1 : Int)], (pc σ1).2.2.1] [] :: l := by rw [List.append_assoc]; rfl
          rw [hcons, hln2] at S95
          rw [hcons] at he95 z95
          exact hT (gn 82 [[((pc σ1).2.1 : Int)], (pc σ1).2.2.1] [] :: l) σ95 H95 η95 cap95 (SS_mono S95 (by rw [List.length_cons]; omega) (by rw [List.length_cons]; omega)) (fun q => by cases q) (Qx_to (Qx_t (Qx_t q1 (Qx_t q26 q35)) q95) (by omega) (by omega)) (Er_t (Er_1 ⟨w35.1.trans (w26.1.trans w1.1), w35.2.trans (w26.2.trans w1.2)⟩) e95) z95 he95
      · have q29 := Qx_p p29
        have m29 := q29.2.2.1
        have d29 := dep_le q29
        have vn29 := congrArg List.length w29.2
        have vd29 := q29.1
        refine zW_toldTy (h30 n (by omega)) (by omega) S29 hu (by omega) (by omega) he her (fun t40 σ40 H40 η40 ro40 S40 o40 q40 e40 he => ?_)
        have m40 := q40.2.2.1
        have d40 := dep_le q40
        have vn40 := Er_len e40
        have vd40 := q40.1
        refine yl_Parser_datatype_p113 ?_
        unfold yb_Parser_datatype_p113
        have S41 := SS_pk 4 [1, 3, 0, 2] rfl rfl S40
        refine m_ConDec (by omega) S41 (fun H42 S42 => ?_)
        have S44 := SS_pk 3 [2, 0, 1] rfl rfl S42
        refine zW_add (by omega) (by omega) (okO (by decide)) S44 (fun H43 c43 S43 f43 f43' => ?_)
        refine zW_takes 39 137 (by decide) (by omega) S43 (by omega) (by omega) he her (fun u45 he => ?_) (fun u45 σ45 H45 η45 S45 p45 w45 he => ?_)
        · have S46 := SS_pk 2 [1, 0] rfl rfl S43
          have S47 := SS_eqC (ho_82a (p := ((pc σ1).2.1 : Int)) (b := (pc σ1).2.2.1) (ys := [t40]) (τs := τs)) S46
          exact hT [gn 82 [[((pc σ1).2.1 : Int)], (pc σ1).2.2.1] [t40]] σ40 H43 η40 _ (SS_mono S47 (by show _ ≤ g - 28 * ((1 : Nat) : Int); omega) (by show _ ≤ h + 40 + 8 * (τs.length : Int) - 4 * cap - 180 * ((1 : Nat) : Int); omega)) (fun q => by cases q) (Qx_to (Qx_t q1 (Qx_t q26 (Qx_t q29 q40))) (by omega) (by omega)) (Er_o ⟨w29.1.trans (w26.1.trans w1.1), w29.2.trans (w26.2.trans w1.2)⟩ e40) (by rw [List.length_append]; show _ + 1 + _ ≤ _; omega) he
        · have q45 := Qx_p p45
          have m45 := q45.2.2.1
          have d45 := dep_le q45
          have vn45 := congrArg List.length w45.2
          have vd45 := q45.1
          have S48 := SS_pk 2 [1, 0] rfl rfl S45
          have S49 := SS_eqC (ho_82a (p := ((pc σ1).2.1 : Int)) (b := (pc σ1).2.2.1) (ys := [t40]) (τs := τs)) S48
          have hln2 : (τs ++ [gn 82 [[((pc σ1).2.1 : Int)], (pc σ1).2.2.1] [t40]]).length = τs.length + 1 := by rw [List.length_append]; rfl
          refine ih (fun n' hn' => h30 n' (by omega)) Γ H45 σ45 η45 M _ _ d Q r _ l3 f a x (τs ++ [gn 82 [[((pc σ1).2.1 : Int)], (pc σ1).2.2.1] [t40]]) fT θ1 θ2 S49 hu (by omega) (by rw [hln2]; omega) (by rw [hln2]; omega) (by rw [hln2]; omega) (by omega) (by simp only [List.append_assoc]; exact he) her (fun l σ95 H95 η95 cap95 S95 _ q95 e95 z95 he95 => ?_)
          have hcons : (τs ++ [gn 82 [[((pc σ1).2.1 : Int)], (pc σ1).2.2.1] [t40]]) ++ l = τs ++ gn 82 [[((pc σ1).2.1 : Int)], (pc σ1).2.2.1] [t40] :: l := by rw [List.append_assoc]; rfl
          rw [hcons, hln2] at S95
          rw [hcons] at he95 z95
          exact hT (gn 82 [[((pc σ1).2.1 : Int)], (pc σ1).2.2.1] [t40] :: l) σ95 H95 η95 cap95 (SS_mono S95 (by rw [List.length_cons]; omega) (by rw [List.length_cons]; omega)) (fun q => by cases q) (Qx_to (Qx_t (Qx_t q1 (Qx_t q26 (Qx_t q29 (Qx_t q40 q45)))) q95) (by omega) (by omega)) (Er_t (Er_e (Er_o ⟨w29.1.trans (w26.1.trans w1.1), w29.2.trans (w26.2.trans w1.2)⟩ e40) w45) e95) z95 he95
theorem y_datLoop : ∀ (n : Nat), (∀ n', n' < n → YCf C B X t (sP t n' 30 [] []) 126 4 ho okTy) → ∀ (Γ : Gm) (H : YS) (σ : Ps) (η : Et) (M : List (Gt × Option Nat)) (g h : Int) (d : Nat) (Q : Option (Option ZV) → YS → Prop) (r : (Int × Nat) ⊕ (Gt × Ps)) (cap l1 a : Nat) (τs : List Gt) (fT : List Gt → Ps → PR), SS C B X t Γ H σ η ((oO 62 [] [oF 18600 (oA l1)], some a) :: (oC cap (τs.map ho), some l1) :: M) g h → Γ.2.2.2.2 = 0 → g ≤ 2970 → h + 8 * τs.length ≤ 2810 + 4 * cap → cap ≤ 10 + 2 * τs.length → τs.length + pmu t σ ≤ 999 → dep t σ + 22 ≤ d → pB (sP t n 49 [] [] σ) (fun l σ2 => fT (τs ++ gs l) σ2) = some r →
      (∀ e p H', r = .inl (e, p) → Th C B X t Γ H' e p → Q none H') →
      (∀ l σ2 H2 η2 cap2, SS C B X t Γ H2 σ2 η2 ((oO 62 [] [oF 18600 (oA l1)], some a) :: (oC cap2 ((τs ++ l).map ho), some l1) :: M) (g - 80 * l.length) (h + 40 + 8 * τs.length - 4 * cap - 500 * l.length) → l ≠ [] → Qx t 0 1 σ σ2 → Er η η2 [] → fT (τs ++ l) σ2 = some r → Q (some (some (.inr (.inr (some a))))) H2) → zW (YL C d 612 [zr (X 8), zr a] H) Q := by
  intro n
  induction n with
  | zero =>
    intro _ Γ H σ η M g h d Q r cap l1 a τs fT S hu hg hh hc hl hd he
    cases he
  | succ n ih =>
    intro h30 Γ H σ η M g h d Q r cap l1 a τs fT S hu hg hh hc hl hd he her hT
    have d40 := dep_40 S
    have vl := SS_vl S
    have hmp : (τs.map ho).length = τs.length := List.length_map _
    have he : pB (gDatas t (sP t n) σ) (fun l σ2 => fT (τs ++ gs l) σ2) = some r := he
    unfold gDatas at he
    simp only [pB_pT, pB_ite, pB_pR, pB_pWr, pB_in, pB_ass, pB_pNeed, pB_pOpens, pB_pCloses, pB_pName, pB_pAny, pB_pOpn, pB_pLab, gs_gl, cons1] at he
    refine yl_Parser_datatype_p12 ?_
    unfold yb_Parser_datatype_p12
    refine zW_vars (by omega) S hu (by omega) (by omega) he her (fun l101 σ101 H101 η101 ro101 S101 q101 e101 he => ?_)
    simp only [gs_gl] at he
    have m101 := q101.2.2.1
    have d101 := dep_le q101
    have vn101 := Er_len e101
    have vd101 := q101.1
    refine zW_let ?_
    refine zW_plc S101 ?_
    refine zW_let ?_
    have S102 := SS_new (kd := 63) (n := 5) (p := []) S101 (by decide) trivial
    refine zW_new ?_
    rw [if_neg (show ¬ (63 : Nat) = 3 by decide)]
    refine zW_name (by omega) S102 (by omega) (by omega) he her (fun k103 x103 σ103 H103 η103 S103 p103 w103 he => ?_)
    have q103 := Qx_p p103
    have m103 := q103.2.2.1
    have d103 := dep_le q103
    have vn103 := congrArg List.length w103.2
    have vd103 := q103.1
    have S104 := SS_pk 3 [1, 2, 0] rfl rfl S103
    refine m_DataOne (by omega) S104 (fun H105 l3 S105 => ?_)
    refine zW_let ?_
    refine zW_need 40 1 (by decide) (by omega) S105 (by omega) (by omega) he her (fun _ σ106 H106 η106 S106 p106 w106 he => ?_)
    have q106 := Qx_p p106
    have m106 := q106.2.2.1
    have d106 := dep_le q106
    have vn106 := congrArg List.length w106.2
    have vd106 := q106.1
    have lz : ([] : List Gt).length = 0 := rfl
    refine y_conLoop n (fun n' q => h30 n' (by omega)) Γ H106 σ106 η106 _ _ _ d Q r 0 l3 _ a _ [] (fun l σ2 => if pIs σ2 0 then pT (pPass t σ2) fun σ3 => pB (sP t n 49 [] [] σ3) fun l' σ4 => fT (τs ++ gn 81 [[((pc σ101).2.1 : Int)], (pc σ101).2.2.1] [gl l101, gl l] :: gs l') σ4 else fT (τs ++ [gn 81 [[((pc σ101).2.1 : Int)], (pc σ101).2.2.1] [gl l101, gl l]]) σ2) _ _ S106 hu (by omega) (by omega) (by omega) (by rw [lz]; omega) (by omega) he her (fun lc σ95 H95 η95 cap95 S95 n95 q95 e95 z95 he => ?_)
    simp only [List.length_nil, List.nil_append] at S95 he
    have m95 := q95.2.2.1
    have d95 := dep_le q95
    have vd95 := q95.1
    have vn95 := Er_len e95
    have hl1 : 1 ≤ lc.length := List.length_pos_iff.mpr n95
    have S96 := SS_oL (SS_pk 2 [1, 0] rfl rfl S95)
    have S97 := SS_fp (by decide) (List.perm_append_comm (l₁ := [_]) (l₂ := [_, _])) (SS_nest [] (by decide) (SS_pk 2 [1, 0] rfl rfl S96))
    have S98 := SS_eq (ho_81 (p := ((pc σ101).2.1 : Int)) (b := (pc σ101).2.2.1) (vs := l101) (cs := lc)).symm S97
    have S107 := SS_pk 2 [1, 0] rfl rfl S98
    refine zW_gA [] (by decide) (by decide) S107 ?_
    have S109 := SS_pk 3 [2, 1, 0] rfl rfl S107
    refine zW_add (by omega) (by omega) (by rw [ho_81]; exact okO (by decide)) S109 (fun H108 c108 S108 f108 f108' => ?_)
    refine zW_takes 0 146 (by decide) (by omega) S108 (by omega) (by omega) he her (fun u110 he => ?_) (fun u110 σ110 H110 η110 S110 p110 w110 he => ?_)
    · have S111 := SS_pk 2 [1, 0] rfl rfl S108
      have S112 := SS_eqC (show τs.map ho ++ [ho (gn 81 [[((pc σ101).2.1 : Int)], (pc σ101).2.2.1] [gl l101, gl lc])] = (τs ++ [gn 81 [[((pc σ101).2.1 : Int)], (pc σ101).2.2.1] [gl l101, gl lc]]).map ho by rw [List.map_append]; rfl) S111
      exact zW_rQ (hT [gn 81 [[((pc σ101).2.1 : Int)], (pc σ101).2.2.1] [gl l101, gl lc]] σ95 H108 η95 _ (SS_mono S112 (by show _ ≤ g - 80 * ((1 : Nat) : Int); omega) (by show _ ≤ h + 40 + 8 * (τs.length : Int) - 4 * cap - 500 * ((1 : Nat) : Int); omega)) (fun q => by cases q) (Qx_to (Qx_t q101 (Qx_t q103 (Qx_t q106 q95))) (by omega) (by omega)) (Er_t (Er_e e101 ⟨w106.1.trans w103.1, w106.2.trans w103.2⟩) e95) he)
    · have q110 := Qx_p p110
      have m110 := q110.2.2.1
      have d110 := dep_le q110
      have vn110 := congrArg List.length w110.2
      have vd110 := q110.1
      have S113 := SS_pk 2 [1, 0] rfl rfl S110
      have S114 := SS_eqC (show τs.map ho ++ [ho (gn 81 [[((pc σ101).2.1 : Int)], (pc σ101).2.2.1] [gl l101, gl lc])] = (τs ++ [gn 81 [[((pc σ101).2.1 : Int)], (pc σ101).2.2.1] [gl l101, gl lc]]).map ho by rw [List.map_append]; rfl) S113
      have hln2 : (τs ++ [gn 81 [[((pc σ101).2.1 : Int)], (pc σ101).2.2.1] [gl l101, gl lc]]).length = τs.length + 1 := by rw [List.length_append]; rfl
      refine ih (fun n' hn' => h30 n' (by omega)) Γ H110 σ110 η110 M _ _ d Q r _ l1 a (τs ++ [gn 81 [[((pc σ101).2.1 : Int)], (pc σ101).2.2.1] [gl l101, gl lc]]) fT S114 hu (by omega) (by rw [hln2]; omega) (by rw [hln2]; omega) (by rw [hln2]; omega) (by omega) (by simp only [List.append_assoc]; exact he) her (fun l σ98 H98 η98 cap98 S99 _ q98 e98 he98 => ?_)
      have hcons : (τs ++ [gn 81 [[((pc σ101).2.1 : Int)], (pc σ101).2.2.1] [gl l101, gl lc]]) ++ l = τs ++ gn 81 [[((pc σ101).2.1 : Int)], (pc σ101).2.2.1] [gl l101, gl lc] :: l := by rw [List.append_assoc]; rfl
      rw [hcons, hln2] at S99
      rw [hcons] at he98
      exact hT (gn 81 [[((pc σ101).2.1 : Int)], (pc σ101).2.2.1] [gl l101, gl lc] :: l) σ98 H98 η98 cap98 (SS_mono S99 (by rw [List.length_cons]; omega) (by rw [List.length_cons]; omega)) (fun q => by cases q) (Qx_to (Qx_t (Qx_t q101 (Qx_t q103 (Qx_t q106 (Qx_t q95 q110)))) q98) (by omega) (by omega)) (Er_t (Er_e (Er_t (Er_e e101 ⟨w106.1.trans w103.1, w106.2.trans w103.2⟩) e95) w110) e98) he98
theorem y_datatype {n : Nat} (h30 : ∀ n', n' < n → YCf C B X t (sP t n' 30 [] []) 126 4 ho okTy) (hlen : t.length ≤ 900) : YDf C B X t (nE 4 (gDat t (sP t n))) 163 24 ho okDc := by
  intro Γ H σ η M g h d Q r S hu hvl hg hh hd he her hk
  have d40 := dep_40 S
  have vl := SS_vl S
  have hmu := pmu_le (t := t) (σ := σ)
  obtain ⟨w, he⟩ := nE_is he
  unfold gDat at he
  try simp only [pB_pT, pB_ite, pB_pR, pB_pWr, pB_in, pB_ass, pB_pNeed, pB_pOpens, pB_pCloses, pB_pName, pB_pAny, pB_pOpn, pB_pLab, gs_gl, cons1] at he
  refine yl_Parser_datatype ?_
  unfold yb_Parser_datatype
  refine zW_pass (by omega) S (by have := w.1; omega) (by omega) (by omega) he her (fun σ1 H1 η1 S1 p1 w1 he => ?_)
  have q1 := Qx_p p1
  have m1 := q1.2.2.1
  have d1 := dep_le q1
  have vn1 := congrArg List.length w1.2
  have vd1 := q1.1
  have S2 := SS_new (kd := 62) (n := 1) (p := []) S1 (by decide) trivial
  refine zW_new ?_
  rw [if_neg (show ¬ (62 : Nat) = 3 by decide)]
  refine m_DataDec (by omega) S2 (fun H3 l1 S3 => ?_)
  refine zW_let ?_
  have lz : ([] : List Gt).length = 0 := rfl
  refine y_datLoop n (fun n' q => h30 n' (by omega)) Γ H3 σ1 η1 M _ _ d Q r 0 l1 _ [] (fun l σ2 => pR (gn 74 [] l) σ2) S3 hu (by omega) (by omega) (by omega) (by rw [lz]; omega) (by omega) he her (fun l σ95 H95 η95 c5 S95 n95 q95 e95 he95 => ?_)
  simp only [List.length_nil, List.nil_append] at S95 he95
  have hl1 : 1 ≤ l.length := List.length_pos_iff.mpr n95
  have S96 := SS_oL (SS_pk 2 [1, 0] rfl rfl S95)
  have S97 := SS_nest [] (by decide) (SS_pk 2 [1, 0] rfl rfl S96)
  have S98 := SS_eq (ho_74 (s := l)).symm S97
  exact hk (gn 74 [] l) σ95 H95 η95 _ (Option.some.inj he95).symm (SS_mono S98 (by omega) (by omega)) ⟨(by decide : 70 ≤ 74), (by decide : 74 ≤ 77)⟩ (Qx_to (Qx_t q1 q95) (by omega) (by omega)) (Er_d (by decide) (Er_o w1 e95))
end YData
